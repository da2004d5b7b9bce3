/-! HotIronModel: the walks of its methods, 3 -/
set_option maxRecDepth 100000
section
variable {p : Program} {l : Launch} {e : Env} {s : State} {m : MethodId} {args : Array Value} {below : List Frame} {meth : Method} {c : Code} {Q : State → Prop} {ad : Nat → Nat} {dc : Nat → ClassId} {D : va_G} {A : Nat → Prop}
-- X6_moveAll
abbrev RmX6_moveAll : Room := { frames := 2, cells := 0, slots := 0, locals := 47 }
theorem hdX6_moveAll : yX6_moveAll.cls = RX6 ∧ yX6_moveAll.cls ≠ "java/lang/invoke/MethodHandle" ∧ yX6_moveAll.cls ≠ "java/lang/invoke/VarHandle" ∧ (parseMethodDescriptor yX6_moveAll.desc).map (fun d => d.parameters.length) = some 2 := by decide +kernel
set_option maxHeartbeats 400000 in
theorem wX6_moveAll_57 (C0 : Cx ad dc D RX6 cX6_moveAll 6 p s m args meth c) (a1 : Int32) (a2 : Int32) (a3 : Int32) (a4 : Int32) (t0 : Int32) (σ : St)  (o : (St) ⊕ (Int32 × St)) (h : fX6_moveAll_57 a1 a2 a3 a4 t0 σ = some o) (Kb : ∀ (b4 : Int32) (σ' : St), o = .inr (b4, σ') → ∀ (H : Heap) (locs : List Loc) (ls : Array Slot), lv_has ls 6 [(0, .ref (ad 0)), (1, .int a1), (2, .int a2), (3, .int a3), (4, .int b4)] → GW mSh mKs ad dc D A s σ' H locs → W p l e RmX6_moveAll s m args below meth c H locs 0 0 Q (F0 m 17 ls [])) (Ke0 : ∀  (σ' : St), o = .inl (σ') → ∀ (H : Heap) (locs : List Loc) (ls : Array Slot), lv_has ls 6 [(0, .ref (ad 0)), (1, .int a1), (2, .int a2), (3, .int a3)] → GW mSh mKs ad dc D A s σ' H locs → W p l e RmX6_moveAll s m args below meth c H locs 0 0 Q (F0 m 112 ls [])) (H : Heap) (locs : List Loc) (ls : Array Slot) (hl : lv_has ls 6 [(0, .ref (ad 0)), (1, .int a1), (2, .int a2), (3, .int a3), (4, .int a4)]) (G : GW mSh mKs ad dc D A s σ H locs) : W p l e RmX6_moveAll s m args below meth c H locs 0 0 Q (F0 m 57 ls [.int t0]) := by
  have hx := C0.1
  have hb := C0.2.1
  unfold fX6_moveAll_57 at h
  refine lv_istore (lv' := [(5, .int t0), (0, .ref (ad 0)), (1, .int a1), (2, .int a2), (3, .int a3), (4, .int a4)]) hx hb dX6_moveAll_57 hl (by decide) rfl (fun ls hl => ?_)
  refine lv_iload hx hb dX6_moveAll_59 (lv_at hl 0 rfl) ?_
  refine lv_if_eq (tgt := 106) hx hb dX6_moveAll_61 (by decide) (fun c1 => ?_) (fun c1 => ?_)
  · have h := ite_t h c1
    obtain ⟨x2, e_x2⟩ : ∃ z : Int32, z = a4 + 2 := ⟨_, rfl⟩
    have h := letB_e h e_x2
    refine lv_iinc (v := x2) (lv' := [(4, .int x2), (5, .int t0), (0, .ref (ad 0)), (1, .int a1), (2, .int a2), (3, .int a3)]) hx hb dX6_moveAll_106 hl (k := 5) rfl ((congrArg (fun z => a4 + z) (show Int32.ofInt 2 = 2 by decide)).trans e_x2.symm) (by decide) rfl (fun ls hl => ?_)
    refine lv_goto (tgt := 17) hx hb dX6_moveAll_109 (by decide) ?_
    cases h
    exact Kb x2 (σ) rfl _ _ _ (lv_sub hl [2, 3, 4, 5, 0] rfl) G
  · have h := ite_f h c1
    refine lv_aload_n hx hb dX6_moveAll_64 rfl (lv_at hl 1 rfl) ?_
    refine lv_iload_n hx hb dX6_moveAll_65 rfl (lv_at hl 2 rfl) ?_
    refine lv_iload_n hx hb dX6_moveAll_66 rfl (lv_at hl 4 rfl) ?_
    obtain ⟨r3, h_r3, h⟩ := bn1_e h
    refine g_callVi (rest := []) C0 G hl (ci := 6) rfl (by decide) rfl (kX6_ironOf (l := l) C0.2.2.2.2.2.2.1 G.2.2.2 h_r3) (cwV 2 C0.2.2.2.2.1 (lw_V q2043 q2045 qs94 q114 q2046) rfl rfl rfl hdX6_ironOf ⟨Nat.le_of_ble_eq_true rfl, Nat.le_of_ble_eq_true rfl⟩) rfl (Nat.le_of_ble_eq_true rfl) dX6_moveAll_67 ⟨Nat.zero_le _, Nat.zero_le _⟩ (fun H locs G => ?_)
    refine lv_iconst (v := 2) hx hb dX6_moveAll_70 (by decide +kernel) ?_
    refine lv_icmp_lt (tgt := 106) hx hb dX6_moveAll_71 (by decide) (fun c4 => ?_) (fun c4 => ?_)
    · have h := ite_t h c4
      obtain ⟨x5, e_x5⟩ : ∃ z : Int32, z = a4 + 2 := ⟨_, rfl⟩
      have h := letB_e h e_x5
      refine lv_iinc (v := x5) (lv' := [(4, .int x5), (5, .int t0), (0, .ref (ad 0)), (1, .int a1), (2, .int a2), (3, .int a3)]) hx hb dX6_moveAll_106 hl (k := 5) rfl ((congrArg (fun z => a4 + z) (show Int32.ofInt 2 = 2 by decide)).trans e_x5.symm) (by decide) rfl (fun ls hl => ?_)
      refine lv_goto (tgt := 17) hx hb dX6_moveAll_109 (by decide) ?_
      cases h
      exact Kb x5 (σ) rfl _ _ _ (lv_sub hl [2, 3, 4, 5, 0] rfl) G
    · have h := ite_f h c4
      refine lv_aload_n hx hb dX6_moveAll_74 rfl (lv_at hl 1 rfl) ?_
      refine lv_iload_n hx hb dX6_moveAll_75 rfl (lv_at hl 2 rfl) ?_
      refine lv_iload hx hb dX6_moveAll_76 (lv_at hl 5 rfl) ?_
      obtain ⟨r6, h_r6, h⟩ := bn1_e h
      refine g_callVi (rest := []) C0 G hl (ci := 6) rfl (by decide) rfl (kX6_ironOf (l := l) C0.2.2.2.2.2.2.1 G.2.2.2 h_r6) (cwV 2 C0.2.2.2.2.1 (lw_V q2043 q2045 qs94 q114 q2046) rfl rfl rfl hdX6_ironOf ⟨Nat.le_of_ble_eq_true rfl, Nat.le_of_ble_eq_true rfl⟩) rfl (Nat.le_of_ble_eq_true rfl) dX6_moveAll_78 ⟨Nat.zero_le _, Nat.zero_le _⟩ (fun H locs G => ?_)
      refine lv_bipush (v := 9) hx hb dX6_moveAll_81 (by decide +kernel) ?_
      refine lv_icmp_ge (tgt := 106) hx hb dX6_moveAll_83 (by decide) (fun c7 => ?_) (fun c7 => ?_)
      · have h := ite_t h c7
        obtain ⟨x8, e_x8⟩ : ∃ z : Int32, z = a4 + 2 := ⟨_, rfl⟩
        have h := letB_e h e_x8
        refine lv_iinc (v := x8) (lv' := [(4, .int x8), (5, .int t0), (0, .ref (ad 0)), (1, .int a1), (2, .int a2), (3, .int a3)]) hx hb dX6_moveAll_106 hl (k := 5) rfl ((congrArg (fun z => a4 + z) (show Int32.ofInt 2 = 2 by decide)).trans e_x8.symm) (by decide) rfl (fun ls hl => ?_)
        refine lv_goto (tgt := 17) hx hb dX6_moveAll_109 (by decide) ?_
        cases h
        exact Kb x8 (σ) rfl _ _ _ (lv_sub hl [2, 3, 4, 5, 0] rfl) G
      · have h := ite_f h c7
        refine lv_aload_n hx hb dX6_moveAll_86 rfl (lv_at hl 1 rfl) ?_
        refine lv_iload_n hx hb dX6_moveAll_87 rfl (lv_at hl 2 rfl) ?_
        refine lv_aload_n hx hb dX6_moveAll_88 rfl (lv_at hl 1 rfl) ?_
        refine m_getC C0 G 50 (by decide) rfl q1564 dX6_moveAll_89 ?_
        refine lv_iload_n hx hb dX6_moveAll_92 rfl (lv_at hl 4 rfl) ?_
        obtain ⟨b_9, h⟩ := ckB_e h
        refine g_iald C0 G (n := 5) (by decide) rfl b_9 dX6_moveAll_93 ?_
        refine lv_isub hx hb dX6_moveAll_94 ?_
        refine lv_aload_n hx hb dX6_moveAll_95 rfl (lv_at hl 1 rfl) ?_
        refine m_getC C0 G 50 (by decide) rfl q1564 dX6_moveAll_96 ?_
        refine lv_iload hx hb dX6_moveAll_99 (lv_at hl 5 rfl) ?_
        obtain ⟨b_10, h⟩ := ckB_e h
        refine g_iald C0 G (n := 5) (by decide) rfl b_10 dX6_moveAll_101 ?_
        refine lv_iadd hx hb dX6_moveAll_102 ?_
        obtain ⟨σ12, h_r11, h⟩ := bn1_e h
        refine g_callVv (rest := []) C0 G hl (ci := 6) rfl (by decide) rfl (kX6_reach (l := l) C0.2.2.2.2.2.2.1 G.2.2.2 h_r11) (cwV 1 C0.2.2.2.2.1 (lw_V q2047 q2049 qs95 q114 q2050) rfl rfl rfl hdX6_reach ⟨Nat.le_of_ble_eq_true rfl, Nat.le_of_ble_eq_true rfl⟩) rfl (Nat.le_of_ble_eq_true rfl) dX6_moveAll_103 ⟨Nat.zero_le _, Nat.zero_le _⟩ (fun H locs G => ?_)
        obtain ⟨x13, e_x13⟩ : ∃ z : Int32, z = a4 + 2 := ⟨_, rfl⟩
        have h := letB_e h e_x13
        refine lv_iinc (v := x13) (lv' := [(4, .int x13), (5, .int t0), (0, .ref (ad 0)), (1, .int a1), (2, .int a2), (3, .int a3)]) hx hb dX6_moveAll_106 hl (k := 5) rfl ((congrArg (fun z => a4 + z) (show Int32.ofInt 2 = 2 by decide)).trans e_x13.symm) (by decide) rfl (fun ls hl => ?_)
        refine lv_goto (tgt := 17) hx hb dX6_moveAll_109 (by decide) ?_
        cases h
        exact Kb x13 (σ12) rfl _ _ _ (lv_sub hl [2, 3, 4, 5, 0] rfl) G
set_option maxHeartbeats 400000 in
theorem wX6_moveAll_56 (C0 : Cx ad dc D RX6 cX6_moveAll 6 p s m args meth c) (a1 : Int32) (a2 : Int32) (a3 : Int32) (a4 : Int32) (σ : St)  (o : (St) ⊕ (Int32 × St)) (h : fX6_moveAll_56 a1 a2 a3 a4 σ = some o) (Kb : ∀ (b4 : Int32) (σ' : St), o = .inr (b4, σ') → ∀ (H : Heap) (locs : List Loc) (ls : Array Slot), lv_has ls 6 [(0, .ref (ad 0)), (1, .int a1), (2, .int a2), (3, .int a3), (4, .int b4)] → GW mSh mKs ad dc D A s σ' H locs → W p l e RmX6_moveAll s m args below meth c H locs 0 0 Q (F0 m 17 ls [])) (Ke0 : ∀  (σ' : St), o = .inl (σ') → ∀ (H : Heap) (locs : List Loc) (ls : Array Slot), lv_has ls 6 [(0, .ref (ad 0)), (1, .int a1), (2, .int a2), (3, .int a3)] → GW mSh mKs ad dc D A s σ' H locs → W p l e RmX6_moveAll s m args below meth c H locs 0 0 Q (F0 m 112 ls [])) (H : Heap) (locs : List Loc) (ls : Array Slot) (hl : lv_has ls 6 [(0, .ref (ad 0)), (1, .int a1), (2, .int a2), (3, .int a3), (4, .int a4)]) (G : GW mSh mKs ad dc D A s σ H locs) : W p l e RmX6_moveAll s m args below meth c H locs 0 0 Q (F0 m 56 ls []) := by
  have hx := C0.1
  have hb := C0.2.1
  unfold fX6_moveAll_56 at h
  refine lv_iconst (v := 0) hx hb dX6_moveAll_56 (by decide +kernel) ?_
  exact wX6_moveAll_57 C0 a1 a2 a3 a4 0 (σ)  _ h Kb Ke0 _ _ _ hl G
set_option maxHeartbeats 400000 in
theorem wX6_moveAll_52 (C0 : Cx ad dc D RX6 cX6_moveAll 6 p s m args meth c) (a1 : Int32) (a2 : Int32) (a3 : Int32) (a4 : Int32) (σ : St)  (o : (St) ⊕ (Int32 × St)) (h : fX6_moveAll_52 a1 a2 a3 a4 σ = some o) (Kb : ∀ (b4 : Int32) (σ' : St), o = .inr (b4, σ') → ∀ (H : Heap) (locs : List Loc) (ls : Array Slot), lv_has ls 6 [(0, .ref (ad 0)), (1, .int a1), (2, .int a2), (3, .int a3), (4, .int b4)] → GW mSh mKs ad dc D A s σ' H locs → W p l e RmX6_moveAll s m args below meth c H locs 0 0 Q (F0 m 17 ls [])) (Ke0 : ∀  (σ' : St), o = .inl (σ') → ∀ (H : Heap) (locs : List Loc) (ls : Array Slot), lv_has ls 6 [(0, .ref (ad 0)), (1, .int a1), (2, .int a2), (3, .int a3)] → GW mSh mKs ad dc D A s σ' H locs → W p l e RmX6_moveAll s m args below meth c H locs 0 0 Q (F0 m 112 ls [])) (H : Heap) (locs : List Loc) (ls : Array Slot) (hl : lv_has ls 6 [(0, .ref (ad 0)), (1, .int a1), (2, .int a2), (3, .int a3), (4, .int a4)]) (G : GW mSh mKs ad dc D A s σ H locs) : W p l e RmX6_moveAll s m args below meth c H locs 0 0 Q (F0 m 52 ls []) := by
  have hx := C0.1
  have hb := C0.2.1
  unfold fX6_moveAll_52 at h
  refine lv_iconst (v := 1) hx hb dX6_moveAll_52 (by decide +kernel) ?_
  refine lv_goto (tgt := 57) hx hb dX6_moveAll_53 (by decide) ?_
  exact wX6_moveAll_57 C0 a1 a2 a3 a4 1 (σ)  _ h Kb Ke0 _ _ _ hl G
set_option maxHeartbeats 400000 in
theorem wbX6_moveAll_17 (C0 : Cx ad dc D RX6 cX6_moveAll 6 p s m args meth c) (a1 : Int32) (a2 : Int32) (a3 : Int32) (a4 : Int32) (σ : St)  (o : (St) ⊕ (Int32 × St)) (h : bX6_moveAll_17 a1 a2 a3 a4 σ = some o) (Kb : ∀ (b4 : Int32) (σ' : St), o = .inr (b4, σ') → ∀ (H : Heap) (locs : List Loc) (ls : Array Slot), lv_has ls 6 [(0, .ref (ad 0)), (1, .int a1), (2, .int a2), (3, .int a3), (4, .int b4)] → GW mSh mKs ad dc D A s σ' H locs → W p l e RmX6_moveAll s m args below meth c H locs 0 0 Q (F0 m 17 ls [])) (Ke0 : ∀  (σ' : St), o = .inl (σ') → ∀ (H : Heap) (locs : List Loc) (ls : Array Slot), lv_has ls 6 [(0, .ref (ad 0)), (1, .int a1), (2, .int a2), (3, .int a3)] → GW mSh mKs ad dc D A s σ' H locs → W p l e RmX6_moveAll s m args below meth c H locs 0 0 Q (F0 m 112 ls [])) (H : Heap) (locs : List Loc) (ls : Array Slot) (hl : lv_has ls 6 [(0, .ref (ad 0)), (1, .int a1), (2, .int a2), (3, .int a3), (4, .int a4)]) (G : GW mSh mKs ad dc D A s σ H locs) : W p l e RmX6_moveAll s m args below meth c H locs 0 0 Q (F0 m 17 ls []) := by
  have hx := C0.1
  have hb := C0.2.1
  unfold bX6_moveAll_17 at h
  refine lv_iload hx hb dX6_moveAll_17 (lv_at hl 4 rfl) ?_
  refine lv_iload_n hx hb dX6_moveAll_19 rfl (lv_at hl 3 rfl) ?_
  refine lv_iconst (v := 1) hx hb dX6_moveAll_20 (by decide +kernel) ?_
  refine lv_iadd hx hb dX6_moveAll_21 ?_
  refine lv_icmp_gt (tgt := 112) hx hb dX6_moveAll_22 (by decide) (fun c1 => ?_) (fun c1 => ?_)
  · have h := ite_t h c1
    cases h
    exact Ke0 (σ) rfl _ _ _ (lv_sub hl [0, 1, 2, 3] rfl) G
  · have h := ite_f h c1
    refine lv_aload_n hx hb dX6_moveAll_25 rfl (lv_at hl 0 rfl) ?_
    refine lv_iload hx hb dX6_moveAll_26 (lv_at hl 4 rfl) ?_
    refine lv_i2l hx hb dX6_moveAll_28 rfl ?_
    obtain ⟨r2, h_r2, h⟩ := bn1_e h
    refine g_callVi (rest := []) C0 G hl (ci := 6) rfl (by decide) rfl (kX6_isCell (l := l) C0.2.2.2.2.2.2.1 G.2.2.2 h_r2) (cwV 1 C0.2.2.2.2.1 (lw_V q1750 q1752 qs52 q114 q1753) rfl rfl rfl hdX6_isCell ⟨Nat.le_of_ble_eq_true rfl, Nat.le_of_ble_eq_true rfl⟩) rfl (Nat.le_of_ble_eq_true rfl) dX6_moveAll_29 ⟨Nat.zero_le _, Nat.zero_le _⟩ (fun H locs G => ?_)
    refine lv_if_eq (tgt := 56) hx hb dX6_moveAll_32 (by decide) (fun c3 => ?_) (fun c3 => ?_)
    · have h := ite_t h c3
      exact wX6_moveAll_56 C0 a1 a2 a3 a4 (σ)  _ h Kb Ke0 _ _ _ hl G
    · have h := ite_f h c3
      refine lv_iload_n hx hb dX6_moveAll_35 rfl (lv_at hl 3 rfl) ?_
      refine lv_iload_n hx hb dX6_moveAll_36 rfl (lv_at hl 2 rfl) ?_
      obtain ⟨r4, h_r4, h⟩ := bn1_e h
      refine g_callSi (rest := []) C0 G hl (kX6_isNear (l := l) C0.2.2.2.2.2.2.1 G.2.2.2 h_r4) (va_cwS 2 C0.2.2.2.2.1 (lw_S q1954 q1955 q114 q1956) rfl rfl rfl hdX6_isNear ⟨Nat.le_of_ble_eq_true rfl, Nat.le_of_ble_eq_true rfl⟩) rfl (Nat.le_of_ble_eq_true rfl) dX6_moveAll_37 ⟨Nat.zero_le _, Nat.zero_le _⟩ (fun H locs G => ?_)
      refine lv_if_ne (tgt := 52) hx hb dX6_moveAll_40 (by decide) (fun c5 => ?_) (fun c5 => ?_)
      · have h := ite_f h c5
        exact wX6_moveAll_52 C0 a1 a2 a3 a4 (σ)  _ h Kb Ke0 _ _ _ hl G
      · have h := ite_t h c5
        refine lv_iload hx hb dX6_moveAll_43 (lv_at hl 4 rfl) ?_
        refine lv_iload_n hx hb dX6_moveAll_45 rfl (lv_at hl 2 rfl) ?_
        obtain ⟨r6, h_r6, h⟩ := bn1_e h
        refine g_callSi (rest := []) C0 G hl (kX6_isNear (l := l) C0.2.2.2.2.2.2.1 G.2.2.2 h_r6) (va_cwS 2 C0.2.2.2.2.1 (lw_S q1954 q1955 q114 q1956) rfl rfl rfl hdX6_isNear ⟨Nat.le_of_ble_eq_true rfl, Nat.le_of_ble_eq_true rfl⟩) rfl (Nat.le_of_ble_eq_true rfl) dX6_moveAll_46 ⟨Nat.zero_le _, Nat.zero_le _⟩ (fun H locs G => ?_)
        refine lv_if_eq (tgt := 56) hx hb dX6_moveAll_49 (by decide) (fun c7 => ?_) (fun c7 => ?_)
        · have h := ite_t h c7
          exact wX6_moveAll_56 C0 a1 a2 a3 a4 (σ)  _ h Kb Ke0 _ _ _ hl G
        · have h := ite_f h c7
          exact wX6_moveAll_52 C0 a1 a2 a3 a4 (σ)  _ h Kb Ke0 _ _ _ hl G
set_option maxHeartbeats 400000 in
theorem lX6_moveAll_17 (C0 : Cx ad dc D RX6 cX6_moveAll 6 p s m args meth c) (a1 : Int32) (a2 : Int32) (a3 : Int32)   : ∀ (n : Nat) (a4 : Int32) (σ : St) (ex : St) (h : iter (fun v : Int32 × St => bX6_moveAll_17 a1 a2 a3 v.1 v.2) n (a4, σ) = some ex) (Ke0 : ∀  (σ' : St), ex = σ' → ∀ (H : Heap) (locs : List Loc) (ls : Array Slot), lv_has ls 6 [(0, .ref (ad 0)), (1, .int a1), (2, .int a2), (3, .int a3)] → GW mSh mKs ad dc D A s σ' H locs → W p l e RmX6_moveAll s m args below meth c H locs 0 0 Q (F0 m 112 ls [])) (H : Heap) (locs : List Loc) (ls : Array Slot) (hl : lv_has ls 6 [(0, .ref (ad 0)), (1, .int a1), (2, .int a2), (3, .int a3), (4, .int a4)]) (G : GW mSh mKs ad dc D A s σ H locs), W p l e RmX6_moveAll s m args below meth c H locs 0 0 Q (F0 m 17 ls []) := by
  intro n
  induction n with
  | zero =>
    intro a4 σ ex h
    cases h
  | succ n ih =>
    intro a4 σ ex h Ke0 H locs ls hl G
    obtain ⟨r, hb1, hr⟩ := iter_e h
    refine wbX6_moveAll_17 C0 a1 a2 a3 a4 σ  r hb1 ?_ ?_ H locs ls hl G
    · intro b4 σ' hv H locs ls hl G
      subst hv
      rcases hr with hr | ⟨a', hr, h2⟩
      · cases hr
      · rw [← Sum.inr.inj hr] at h2
        exact ih b4 σ' ex h2 Ke0 H locs ls hl G
    · intro σ' hv H locs ls hl G
      subst hv
      rcases hr with hr | ⟨a', hr, h2⟩
      · exact Ke0 σ' (Sum.inl.inj hr).symm H locs ls hl G
      · cases hr
set_option maxHeartbeats 400000 in
theorem wX6_moveAll_17 (C0 : Cx ad dc D RX6 cX6_moveAll 6 p s m args meth c) (a1 : Int32) (a2 : Int32) (a3 : Int32) (a4 : Int32) (σ : St)  (o : (St) ⊕ (Int32 × St)) (h : fX6_moveAll_17 a1 a2 a3 a4 σ = some o) (Kb : ∀ (b3 : Int32) (σ' : St), o = .inr (b3, σ') → ∀ (H : Heap) (locs : List Loc) (ls : Array Slot), lv_has ls 6 [(0, .ref (ad 0)), (1, .int a1), (2, .int a2), (3, .int b3)] → GW mSh mKs ad dc D A s σ' H locs → W p l e RmX6_moveAll s m args below meth c H locs 0 0 Q (F0 m 2 ls [])) (Ke0 : ∀  (σ' : St), o = .inl (σ') → ∀ (H : Heap) (locs : List Loc) (ls : Array Slot), lv_has ls 6 [] → GW mSh mKs ad dc D A s σ' H locs → W p l e RmX6_moveAll s m args below meth c H locs 0 0 Q (F0 m 118 ls [])) (H : Heap) (locs : List Loc) (ls : Array Slot) (hl : lv_has ls 6 [(0, .ref (ad 0)), (1, .int a1), (2, .int a2), (3, .int a3), (4, .int a4)]) (G : GW mSh mKs ad dc D A s σ H locs) : W p l e RmX6_moveAll s m args below meth c H locs 0 0 Q (F0 m 17 ls []) := by
  have hx := C0.1
  have hb := C0.2.1
  unfold fX6_moveAll_17 at h
  obtain ⟨ex, h1, h⟩ := bn1_e h
  refine lX6_moveAll_17 C0 a1 a2 a3   FU a4 σ ex h1 ?_ H locs ls hl G
  · intro σ' hv H locs ls hl G
    rw [hv] at h
    have h : (letB (a3 + 1) (fun x1 => some (.inr (x1, σ')))) = some o := h
    obtain ⟨x1, e_x1⟩ : ∃ z : Int32, z = a3 + 1 := ⟨_, rfl⟩
    have h := letB_e h e_x1
    refine lv_iinc (v := x1) (lv' := [(3, .int x1), (0, .ref (ad 0)), (1, .int a1), (2, .int a2)]) hx hb dX6_moveAll_112 hl (k := 3) rfl ((congrArg (fun z => a3 + z) (show Int32.ofInt 1 = 1 by decide)).trans e_x1.symm) (by decide) rfl (fun ls hl => ?_)
    refine lv_goto (tgt := 2) hx hb dX6_moveAll_115 (by decide) ?_
    cases h
    exact Kb x1 (σ') rfl _ _ _ (lv_sub hl [1, 2, 3, 0] rfl) G
set_option maxHeartbeats 400000 in
theorem wbX6_moveAll_2 (C0 : Cx ad dc D RX6 cX6_moveAll 6 p s m args meth c) (a1 : Int32) (a2 : Int32) (a3 : Int32) (σ : St)  (o : (St) ⊕ (Int32 × St)) (h : bX6_moveAll_2 a1 a2 a3 σ = some o) (Kb : ∀ (b3 : Int32) (σ' : St), o = .inr (b3, σ') → ∀ (H : Heap) (locs : List Loc) (ls : Array Slot), lv_has ls 6 [(0, .ref (ad 0)), (1, .int a1), (2, .int a2), (3, .int b3)] → GW mSh mKs ad dc D A s σ' H locs → W p l e RmX6_moveAll s m args below meth c H locs 0 0 Q (F0 m 2 ls [])) (Ke0 : ∀  (σ' : St), o = .inl (σ') → ∀ (H : Heap) (locs : List Loc) (ls : Array Slot), lv_has ls 6 [] → GW mSh mKs ad dc D A s σ' H locs → W p l e RmX6_moveAll s m args below meth c H locs 0 0 Q (F0 m 118 ls [])) (H : Heap) (locs : List Loc) (ls : Array Slot) (hl : lv_has ls 6 [(0, .ref (ad 0)), (1, .int a1), (2, .int a2), (3, .int a3)]) (G : GW mSh mKs ad dc D A s σ H locs) : W p l e RmX6_moveAll s m args below meth c H locs 0 0 Q (F0 m 2 ls []) := by
  have hx := C0.1
  have hb := C0.2.1
  unfold bX6_moveAll_2 at h
  refine lv_iload_n hx hb dX6_moveAll_2 rfl (lv_at hl 3 rfl) ?_
  refine lv_aload_n hx hb dX6_moveAll_3 rfl (lv_at hl 0 rfl) ?_
  refine m_getC C0 G 3 (by decide) rfl q1517 dX6_moveAll_4 ?_
  refine lv_iconst (v := 0) hx hb dX6_moveAll_7 (by decide +kernel) ?_
  obtain ⟨b_1, h⟩ := ckB_e h
  refine g_iald C0 G (n := 8060) (by decide) rfl b_1 dX6_moveAll_8 ?_
  refine lv_icmp_ge (tgt := 118) hx hb dX6_moveAll_9 (by decide) (fun c2 => ?_) (fun c2 => ?_)
  · have h := ite_t h c2
    cases h
    exact Ke0 (σ) rfl _ _ _ (lv_sub hl [] rfl) G
  · have h := ite_f h c2
    refine lv_iload_n hx hb dX6_moveAll_12 rfl (lv_at hl 3 rfl) ?_
    refine lv_iconst (v := 1) hx hb dX6_moveAll_13 (by decide +kernel) ?_
    refine lv_isub hx hb dX6_moveAll_14 ?_
    refine lv_topi (fun x3 e_x3 => ?_)
    have h := letB_e h e_x3
    refine lv_istore (lv' := [(4, .int x3), (0, .ref (ad 0)), (1, .int a1), (2, .int a2), (3, .int a3)]) hx hb dX6_moveAll_15 hl (by decide) rfl (fun ls hl => ?_)
    exact wX6_moveAll_17 C0 a1 a2 a3 x3 (σ)  _ h Kb Ke0 _ _ _ (lv_sub hl [1, 2, 3, 4, 0] rfl) G
set_option maxHeartbeats 400000 in
theorem lX6_moveAll_2 (C0 : Cx ad dc D RX6 cX6_moveAll 6 p s m args meth c) (a1 : Int32) (a2 : Int32)   : ∀ (n : Nat) (a3 : Int32) (σ : St) (ex : St) (h : iter (fun v : Int32 × St => bX6_moveAll_2 a1 a2 v.1 v.2) n (a3, σ) = some ex) (Ke0 : ∀  (σ' : St), ex = σ' → ∀ (H : Heap) (locs : List Loc) (ls : Array Slot), lv_has ls 6 [] → GW mSh mKs ad dc D A s σ' H locs → W p l e RmX6_moveAll s m args below meth c H locs 0 0 Q (F0 m 118 ls [])) (H : Heap) (locs : List Loc) (ls : Array Slot) (hl : lv_has ls 6 [(0, .ref (ad 0)), (1, .int a1), (2, .int a2), (3, .int a3)]) (G : GW mSh mKs ad dc D A s σ H locs), W p l e RmX6_moveAll s m args below meth c H locs 0 0 Q (F0 m 2 ls []) := by
  intro n
  induction n with
  | zero =>
    intro a3 σ ex h
    cases h
  | succ n ih =>
    intro a3 σ ex h Ke0 H locs ls hl G
    obtain ⟨r, hb1, hr⟩ := iter_e h
    refine wbX6_moveAll_2 C0 a1 a2 a3 σ  r hb1 ?_ ?_ H locs ls hl G
    · intro b3 σ' hv H locs ls hl G
      subst hv
      rcases hr with hr | ⟨a', hr, h2⟩
      · cases hr
      · rw [← Sum.inr.inj hr] at h2
        exact ih b3 σ' ex h2 Ke0 H locs ls hl G
    · intro σ' hv H locs ls hl G
      subst hv
      rcases hr with hr | ⟨a', hr, h2⟩
      · exact Ke0 σ' (Sum.inl.inj hr).symm H locs ls hl G
      · cases hr
set_option maxHeartbeats 400000 in
theorem wX6_moveAll_2 (C0 : Cx ad dc D RX6 cX6_moveAll 6 p s m args meth c) (a1 : Int32) (a2 : Int32) (a3 : Int32) (σ : St)  (o : St) (h : fX6_moveAll_2 a1 a2 a3 σ = some o) (Kr : KrV p l e RmX6_moveAll s m args below meth c cX6_moveAll Q (GW mSh mKs ad dc D A s o)) (H : Heap) (locs : List Loc) (ls : Array Slot) (hl : lv_has ls 6 [(0, .ref (ad 0)), (1, .int a1), (2, .int a2), (3, .int a3)]) (G : GW mSh mKs ad dc D A s σ H locs) : W p l e RmX6_moveAll s m args below meth c H locs 0 0 Q (F0 m 2 ls []) := by
  have hx := C0.1
  have hb := C0.2.1
  unfold fX6_moveAll_2 at h
  obtain ⟨ex, h1, h⟩ := bn1_e h
  refine lX6_moveAll_2 C0 a1 a2   FU a3 σ ex h1 ?_ H locs ls hl G
  · intro σ' hv H locs ls hl G
    rw [hv] at h
    have h : (some σ') = some o := h
    cases h
    exact Kr _ _ _ _ dX6_moveAll_118 G
set_option maxHeartbeats 400000 in
theorem wX6_moveAll_0 (C0 : Cx ad dc D RX6 cX6_moveAll 6 p s m args meth c) (a1 : Int32) (a2 : Int32) (σ : St)  (o : St) (h : fX6_moveAll a1 a2 σ = some o) (Kr : KrV p l e RmX6_moveAll s m args below meth c cX6_moveAll Q (GW mSh mKs ad dc D A s o)) (H : Heap) (locs : List Loc) (ls : Array Slot) (hl : lv_has ls 6 [(0, .ref (ad 0)), (1, .int a1), (2, .int a2)]) (G : GW mSh mKs ad dc D A s σ H locs) : W p l e RmX6_moveAll s m args below meth c H locs 0 0 Q (F0 m 0 ls []) := by
  have hx := C0.1
  have hb := C0.2.1
  unfold fX6_moveAll at h
  refine lv_iconst (v := 0) hx hb dX6_moveAll_0 (by decide +kernel) ?_
  refine lv_istore_n (lv' := [(3, .int 0), (0, .ref (ad 0)), (1, .int a1), (2, .int a2)]) hx hb dX6_moveAll_1 rfl hl (by decide) rfl (fun ls hl => ?_)
  exact wX6_moveAll_2 C0 a1 a2 0 (σ)  _ h Kr _ _ _ (lv_sub hl [1, 2, 3, 0] rfl) G
theorem kX6_moveAll {l : Launch} {ad : Nat → Nat} {dc : Nat → ClassId} {D : va_G} {A : Nat → Prop}  (hi : ∀ i j, ad i = ad j → i = j) (hA : ∀ k, k ∈ mKs → A (ad k)) {σ : St} {a1 : Int32} {a2 : Int32}  {σ' : St}  (h : fX6_moveAll a1 a2 σ = some (σ')) : Met l yX6_moveAll (ws_ yX6_moveAll cX6_moveAll 6 none) RmX6_moveAll (gPc mSh mKs ad dc D σ [.ref (ad 0), .int a1, .int a2]) (gQv mSh mKs ad dc D A σ') 0 0 A :=
  g_metV (by decide) rfl hi mKs_nd hA (Nat.le_of_ble_eq_true rfl) (fun p e s m below meth c Q C0 Kr ls hl G => wX6_moveAll_0 C0 a1 a2 σ  (σ') h Kr _ _ ls hl G)
-- X6_findSpread
abbrev RmX6_findSpread : Room := { frames := 3, cells := 0, slots := 0, locals := 72 }
theorem hdX6_findSpread : yX6_findSpread.cls = RX6 ∧ yX6_findSpread.cls ≠ "java/lang/invoke/MethodHandle" ∧ yX6_findSpread.cls ≠ "java/lang/invoke/VarHandle" ∧ (parseMethodDescriptor yX6_findSpread.desc).map (fun d => d.parameters.length) = some 3 := by decide +kernel
set_option maxHeartbeats 400000 in
theorem wX6_findSpread_66 (C0 : Cx ad dc D RX6 cX6_findSpread 9 p s m args meth c) (a1 : Int32) (a2 : Int32) (a3 : Int32) (a5 : Int32) (σ : St)  (o : (Int32) ⊕ (Int32 × Int32)) (h : fX6_findSpread_66 a1 a2 a3 a5 σ = some o) (Kb : ∀ (b4 : Int32) (b5 : Int32), o = .inr (b4, b5) → ∀ (H : Heap) (locs : List Loc) (ls : Array Slot), lv_has ls 9 [(0, .ref (ad 0)), (1, .int a1), (2, .int a2), (3, .int a3), (4, .int b4), (5, .int b5)] → GW mSh mKs ad dc D A s σ H locs → W p l e RmX6_findSpread s m args below meth c H locs 0 0 Q (F0 m 21 ls [])) (Ke0 : ∀ (b4 : Int32), o = .inl b4 → ∀ (H : Heap) (locs : List Loc) (ls : Array Slot), lv_has ls 9 [(0, .ref (ad 0)), (1, .int a1), (2, .int a2), (3, .int a3), (4, .int b4)] → GW mSh mKs ad dc D A s σ H locs → W p l e RmX6_findSpread s m args below meth c H locs 0 0 Q (F0 m 79 ls [])) (H : Heap) (locs : List Loc) (ls : Array Slot) (hl : lv_has ls 9 [(0, .ref (ad 0)), (1, .int a1), (2, .int a2), (3, .int a3), (5, .int a5)]) (G : GW mSh mKs ad dc D A s σ H locs) : W p l e RmX6_findSpread s m args below meth c H locs 0 0 Q (F0 m 66 ls []) := by
  have hx := C0.1
  have hb := C0.2.1
  unfold fX6_findSpread_66 at h
  refine lv_iconst (v := 1) hx hb dX6_findSpread_66 (by decide +kernel) ?_
  refine lv_goto (tgt := 71) hx hb dX6_findSpread_67 (by decide) ?_
  refine lv_istore (lv' := [(4, .int 1), (0, .ref (ad 0)), (1, .int a1), (2, .int a2), (3, .int a3), (5, .int a5)]) hx hb dX6_findSpread_71 hl (by decide) rfl (fun ls hl => ?_)
  obtain ⟨x1, e_x1⟩ : ∃ z : Int32, z = a5 + 1 := ⟨_, rfl⟩
  have h := letB_e h e_x1
  refine lv_iinc (v := x1) (lv' := [(5, .int x1), (4, .int 1), (0, .ref (ad 0)), (1, .int a1), (2, .int a2), (3, .int a3)]) hx hb dX6_findSpread_73 hl (k := 5) rfl ((congrArg (fun z => a5 + z) (show Int32.ofInt 1 = 1 by decide)).trans e_x1.symm) (by decide) rfl (fun ls hl => ?_)
  refine lv_goto (tgt := 21) hx hb dX6_findSpread_76 (by decide) ?_
  cases h
  exact Kb 1 x1 rfl _ _ _ (lv_sub hl [2, 3, 4, 5, 1, 0] rfl) G
set_option maxHeartbeats 400000 in
theorem wbX6_findSpread_133 (C0 : Cx ad dc D RX6 cX6_findSpread 9 p s m args meth c) (a2 : Int32) (a3 : Int32) (a6 : Int32) (a7 : Int32) (a8 : Int32) (σ : St)  (o : (St) ⊕ (Int32 × St)) (h : bX6_findSpread_133 a2 a3 a6 a7 a8 σ = some o) (Kb : ∀ (b8 : Int32) (σ' : St), o = .inr (b8, σ') → ∀ (H : Heap) (locs : List Loc) (ls : Array Slot), lv_has ls 9 [(0, .ref (ad 0)), (2, .int a2), (3, .int a3), (6, .int a6), (7, .int a7), (8, .int b8)] → GW mSh mKs ad dc D A s σ' H locs → W p l e RmX6_findSpread s m args below meth c H locs 0 0 Q (F0 m 133 ls [])) (Ke0 : ∀  (σ' : St), o = .inl (σ') → ∀ (H : Heap) (locs : List Loc) (ls : Array Slot), lv_has ls 9 [(0, .ref (ad 0)), (2, .int a2), (3, .int a3), (6, .int a6), (7, .int a7)] → GW mSh mKs ad dc D A s σ' H locs → W p l e RmX6_findSpread s m args below meth c H locs 0 0 Q (F0 m 158 ls [])) (H : Heap) (locs : List Loc) (ls : Array Slot) (hl : lv_has ls 9 [(0, .ref (ad 0)), (2, .int a2), (3, .int a3), (6, .int a6), (7, .int a7), (8, .int a8)]) (G : GW mSh mKs ad dc D A s σ H locs) : W p l e RmX6_findSpread s m args below meth c H locs 0 0 Q (F0 m 133 ls []) := by
  have hx := C0.1
  have hb := C0.2.1
  unfold bX6_findSpread_133 at h
  refine lv_iload hx hb dX6_findSpread_133 (lv_at hl 5 rfl) ?_
  refine lv_iload hx hb dX6_findSpread_135 (lv_at hl 4 rfl) ?_
  refine lv_icmp_ge (tgt := 158) hx hb dX6_findSpread_137 (by decide) (fun c1 => ?_) (fun c1 => ?_)
  · have h := ite_t h c1
    cases h
    exact Ke0 (σ) rfl _ _ _ (lv_sub hl [0, 1, 2, 3, 4] rfl) G
  · have h := ite_f h c1
    refine lv_aload_n hx hb dX6_findSpread_140 rfl (lv_at hl 0 rfl) ?_
    refine lv_aload_n hx hb dX6_findSpread_141 rfl (lv_at hl 0 rfl) ?_
    refine m_getC C0 G 57 (by decide) rfl q1571 dX6_findSpread_142 ?_
    refine lv_iload hx hb dX6_findSpread_145 (lv_at hl 5 rfl) ?_
    obtain ⟨b_2, h⟩ := ckB_e h
    refine g_iald C0 G (n := 59049) (by decide) rfl b_2 dX6_findSpread_147 ?_
    refine lv_iload_n hx hb dX6_findSpread_148 rfl (lv_at hl 1 rfl) ?_
    obtain ⟨σ4, h_r3, h⟩ := bn1_e h
    refine g_callVv (rest := []) C0 G hl (ci := 6) rfl (by decide) rfl (kX6_moveAll (l := l) C0.2.2.2.2.2.2.1 G.2.2.2 h_r3) (cwV 2 C0.2.2.2.2.1 (lw_V q2051 q2053 qs96 q114 q2054) rfl rfl rfl hdX6_moveAll ⟨Nat.le_of_ble_eq_true rfl, Nat.le_of_ble_eq_true rfl⟩) rfl (Nat.le_of_ble_eq_true rfl) dX6_findSpread_149 ⟨Nat.zero_le _, Nat.zero_le _⟩ (fun H locs G => ?_)
    obtain ⟨x5, e_x5⟩ : ∃ z : Int32, z = a8 + 1 := ⟨_, rfl⟩
    have h := letB_e h e_x5
    refine lv_iinc (v := x5) (lv' := [(8, .int x5), (0, .ref (ad 0)), (2, .int a2), (3, .int a3), (6, .int a6), (7, .int a7)]) hx hb dX6_findSpread_152 hl (k := 5) rfl ((congrArg (fun z => a8 + z) (show Int32.ofInt 1 = 1 by decide)).trans e_x5.symm) (by decide) rfl (fun ls hl => ?_)
    refine lv_goto (tgt := 133) hx hb dX6_findSpread_155 (by decide) ?_
    cases h
    exact Kb x5 (σ4) rfl _ _ _ (lv_sub hl [1, 2, 3, 4, 5, 0] rfl) G
set_option maxHeartbeats 400000 in
theorem lX6_findSpread_133 (C0 : Cx ad dc D RX6 cX6_findSpread 9 p s m args meth c) (a2 : Int32) (a3 : Int32) (a6 : Int32) (a7 : Int32)   : ∀ (n : Nat) (a8 : Int32) (σ : St) (ex : St) (h : iter (fun v : Int32 × St => bX6_findSpread_133 a2 a3 a6 a7 v.1 v.2) n (a8, σ) = some ex) (Ke0 : ∀  (σ' : St), ex = σ' → ∀ (H : Heap) (locs : List Loc) (ls : Array Slot), lv_has ls 9 [(0, .ref (ad 0)), (2, .int a2), (3, .int a3), (6, .int a6), (7, .int a7)] → GW mSh mKs ad dc D A s σ' H locs → W p l e RmX6_findSpread s m args below meth c H locs 0 0 Q (F0 m 158 ls [])) (H : Heap) (locs : List Loc) (ls : Array Slot) (hl : lv_has ls 9 [(0, .ref (ad 0)), (2, .int a2), (3, .int a3), (6, .int a6), (7, .int a7), (8, .int a8)]) (G : GW mSh mKs ad dc D A s σ H locs), W p l e RmX6_findSpread s m args below meth c H locs 0 0 Q (F0 m 133 ls []) := by
  intro n
  induction n with
  | zero =>
    intro a8 σ ex h
    cases h
  | succ n ih =>
    intro a8 σ ex h Ke0 H locs ls hl G
    obtain ⟨r, hb1, hr⟩ := iter_e h
    refine wbX6_findSpread_133 C0 a2 a3 a6 a7 a8 σ  r hb1 ?_ ?_ H locs ls hl G
    · intro b8 σ' hv H locs ls hl G
      subst hv
      rcases hr with hr | ⟨a', hr, h2⟩
      · cases hr
      · rw [← Sum.inr.inj hr] at h2
        exact ih b8 σ' ex h2 Ke0 H locs ls hl G
    · intro σ' hv H locs ls hl G
      subst hv
      rcases hr with hr | ⟨a', hr, h2⟩
      · exact Ke0 σ' (Sum.inl.inj hr).symm H locs ls hl G
      · cases hr
set_option maxHeartbeats 400000 in
theorem wX6_findSpread_133 (C0 : Cx ad dc D RX6 cX6_findSpread 9 p s m args meth c) (a2 : Int32) (a3 : Int32) (a6 : Int32) (a7 : Int32) (a8 : Int32) (σ : St)  (o : (St) ⊕ (Int32 × Int32 × St)) (h : fX6_findSpread_133 a2 a3 a6 a7 a8 σ = some o) (Kb : ∀ (b5 : Int32) (b6 : Int32) (σ' : St), o = .inr (b5, b6, σ') → ∀ (H : Heap) (locs : List Loc) (ls : Array Slot), lv_has ls 9 [(0, .ref (ad 0)), (2, .int a2), (3, .int a3), (5, .int b5), (6, .int b6)] → GW mSh mKs ad dc D A s σ' H locs → W p l e RmX6_findSpread s m args below meth c H locs 0 0 Q (F0 m 117 ls [])) (Ke0 : ∀  (σ' : St), o = .inl (σ') → ∀ (H : Heap) (locs : List Loc) (ls : Array Slot), lv_has ls 9 [] → GW mSh mKs ad dc D A s σ' H locs → W p l e RmX6_findSpread s m args below meth c H locs 0 0 Q (F0 m 168 ls [])) (H : Heap) (locs : List Loc) (ls : Array Slot) (hl : lv_has ls 9 [(0, .ref (ad 0)), (2, .int a2), (3, .int a3), (6, .int a6), (7, .int a7), (8, .int a8)]) (G : GW mSh mKs ad dc D A s σ H locs) : W p l e RmX6_findSpread s m args below meth c H locs 0 0 Q (F0 m 133 ls []) := by
  have hx := C0.1
  have hb := C0.2.1
  unfold fX6_findSpread_133 at h
  obtain ⟨ex, h1, h⟩ := bn1_e h
  refine lX6_findSpread_133 C0 a2 a3 a6 a7   FU a8 σ ex h1 ?_ H locs ls hl G
  · intro σ' hv H locs ls hl G
    rw [hv] at h
    have h : (letB (a6 + 1) (fun x1 => some (.inr (a7, x1, σ')))) = some o := h
    refine lv_iload hx hb dX6_findSpread_158 (lv_at hl 4 rfl) ?_
    refine lv_istore (lv' := [(5, .int a7), (0, .ref (ad 0)), (2, .int a2), (3, .int a3), (6, .int a6), (7, .int a7)]) hx hb dX6_findSpread_160 hl (by decide) rfl (fun ls hl => ?_)
    obtain ⟨x1, e_x1⟩ : ∃ z : Int32, z = a6 + 1 := ⟨_, rfl⟩
    have h := letB_e h e_x1
    refine lv_iinc (v := x1) (lv' := [(6, .int x1), (5, .int a7), (0, .ref (ad 0)), (2, .int a2), (3, .int a3), (7, .int a7)]) hx hb dX6_findSpread_162 hl (k := 4) rfl ((congrArg (fun z => a6 + z) (show Int32.ofInt 1 = 1 by decide)).trans e_x1.symm) (by decide) rfl (fun ls hl => ?_)
    refine lv_goto (tgt := 117) hx hb dX6_findSpread_165 (by decide) ?_
    cases h
    exact Kb a7 x1 (σ') rfl _ _ _ (lv_sub hl [2, 3, 4, 1, 0] rfl) G
set_option maxHeartbeats 400000 in
theorem wbX6_findSpread_117 (C0 : Cx ad dc D RX6 cX6_findSpread 9 p s m args meth c) (a2 : Int32) (a3 : Int32) (a5 : Int32) (a6 : Int32) (σ : St)  (o : (St) ⊕ (Int32 × Int32 × St)) (h : bX6_findSpread_117 a2 a3 a5 a6 σ = some o) (Kb : ∀ (b5 : Int32) (b6 : Int32) (σ' : St), o = .inr (b5, b6, σ') → ∀ (H : Heap) (locs : List Loc) (ls : Array Slot), lv_has ls 9 [(0, .ref (ad 0)), (2, .int a2), (3, .int a3), (5, .int b5), (6, .int b6)] → GW mSh mKs ad dc D A s σ' H locs → W p l e RmX6_findSpread s m args below meth c H locs 0 0 Q (F0 m 117 ls [])) (Ke0 : ∀  (σ' : St), o = .inl (σ') → ∀ (H : Heap) (locs : List Loc) (ls : Array Slot), lv_has ls 9 [] → GW mSh mKs ad dc D A s σ' H locs → W p l e RmX6_findSpread s m args below meth c H locs 0 0 Q (F0 m 168 ls [])) (H : Heap) (locs : List Loc) (ls : Array Slot) (hl : lv_has ls 9 [(0, .ref (ad 0)), (2, .int a2), (3, .int a3), (5, .int a5), (6, .int a6)]) (G : GW mSh mKs ad dc D A s σ H locs) : W p l e RmX6_findSpread s m args below meth c H locs 0 0 Q (F0 m 117 ls []) := by
  have hx := C0.1
  have hb := C0.2.1
  unfold bX6_findSpread_117 at h
  refine lv_iload hx hb dX6_findSpread_117 (lv_at hl 4 rfl) ?_
  refine lv_iload_n hx hb dX6_findSpread_119 rfl (lv_at hl 2 rfl) ?_
  refine lv_icmp_ge (tgt := 168) hx hb dX6_findSpread_120 (by decide) (fun c1 => ?_) (fun c1 => ?_)
  · have h := ite_t h c1
    cases h
    exact Ke0 (σ) rfl _ _ _ (lv_sub hl [] rfl) G
  · have h := ite_f h c1
    refine lv_aload_n hx hb dX6_findSpread_123 rfl (lv_at hl 0 rfl) ?_
    refine m_getI C0 G 58 (by decide) rfl q1572 dX6_findSpread_124 ?_
    refine lv_topi (fun x2 e_x2 => ?_)
    have h := letB_e h e_x2
    refine lv_istore (lv' := [(7, .int x2), (0, .ref (ad 0)), (2, .int a2), (3, .int a3), (5, .int a5), (6, .int a6)]) hx hb dX6_findSpread_127 hl (by decide) rfl (fun ls hl => ?_)
    refine lv_iload hx hb dX6_findSpread_129 (lv_at hl 4 rfl) ?_
    refine lv_istore (lv' := [(8, .int a5), (7, .int x2), (0, .ref (ad 0)), (2, .int a2), (3, .int a3), (5, .int a5), (6, .int a6)]) hx hb dX6_findSpread_131 hl (by decide) rfl (fun ls hl => ?_)
    exact wX6_findSpread_133 C0 a2 a3 a6 x2 a5 (σ)  _ h Kb Ke0 _ _ _ (lv_sub hl [2, 3, 4, 6, 1, 0] rfl) G
set_option maxHeartbeats 400000 in
theorem lX6_findSpread_117 (C0 : Cx ad dc D RX6 cX6_findSpread 9 p s m args meth c) (a2 : Int32) (a3 : Int32)   : ∀ (n : Nat) (a5 : Int32) (a6 : Int32) (σ : St) (ex : St) (h : iter (fun v : Int32 × Int32 × St => bX6_findSpread_117 a2 a3 v.1 v.2.1 v.2.2) n (a5, a6, σ) = some ex) (Ke0 : ∀  (σ' : St), ex = σ' → ∀ (H : Heap) (locs : List Loc) (ls : Array Slot), lv_has ls 9 [] → GW mSh mKs ad dc D A s σ' H locs → W p l e RmX6_findSpread s m args below meth c H locs 0 0 Q (F0 m 168 ls [])) (H : Heap) (locs : List Loc) (ls : Array Slot) (hl : lv_has ls 9 [(0, .ref (ad 0)), (2, .int a2), (3, .int a3), (5, .int a5), (6, .int a6)]) (G : GW mSh mKs ad dc D A s σ H locs), W p l e RmX6_findSpread s m args below meth c H locs 0 0 Q (F0 m 117 ls []) := by
  intro n
  induction n with
  | zero =>
    intro a5 a6 σ ex h
    cases h
  | succ n ih =>
    intro a5 a6 σ ex h Ke0 H locs ls hl G
    obtain ⟨r, hb1, hr⟩ := iter_e h
    refine wbX6_findSpread_117 C0 a2 a3 a5 a6 σ  r hb1 ?_ ?_ H locs ls hl G
    · intro b5 b6 σ' hv H locs ls hl G
      subst hv
      rcases hr with hr | ⟨a', hr, h2⟩
      · cases hr
      · rw [← Sum.inr.inj hr] at h2
        exact ih b5 b6 σ' ex h2 Ke0 H locs ls hl G
    · intro σ' hv H locs ls hl G
      subst hv
      rcases hr with hr | ⟨a', hr, h2⟩
      · exact Ke0 σ' (Sum.inl.inj hr).symm H locs ls hl G
      · cases hr
set_option maxHeartbeats 400000 in
theorem wX6_findSpread_117 (C0 : Cx ad dc D RX6 cX6_findSpread 9 p s m args meth c) (a2 : Int32) (a3 : Int32) (a5 : Int32) (a6 : Int32) (σ : St)  (o : St) (h : fX6_findSpread_117 a2 a3 a5 a6 σ = some o) (Kr : KrV p l e RmX6_findSpread s m args below meth c cX6_findSpread Q (GW mSh mKs ad dc D A s o)) (H : Heap) (locs : List Loc) (ls : Array Slot) (hl : lv_has ls 9 [(0, .ref (ad 0)), (2, .int a2), (3, .int a3), (5, .int a5), (6, .int a6)]) (G : GW mSh mKs ad dc D A s σ H locs) : W p l e RmX6_findSpread s m args below meth c H locs 0 0 Q (F0 m 117 ls []) := by
  have hx := C0.1
  have hb := C0.2.1
  unfold fX6_findSpread_117 at h
  obtain ⟨ex, h1, h⟩ := bn1_e h
  refine lX6_findSpread_117 C0 a2 a3   FU a5 a6 σ ex h1 ?_ H locs ls hl G
  · intro σ' hv H locs ls hl G
    rw [hv] at h
    have h : (some σ') = some o := h
    cases h
    exact Kr _ _ _ _ dX6_findSpread_168 G
set_option maxHeartbeats 400000 in
theorem wX6_findSpread_108 (C0 : Cx ad dc D RX6 cX6_findSpread 9 p s m args meth c) (a2 : Int32) (a3 : Int32) (t1 : Int32) (σ : St)  (o : St) (h : fX6_findSpread_108 a2 a3 t1 σ = some o) (Kr : KrV p l e RmX6_findSpread s m args below meth c cX6_findSpread Q (GW mSh mKs ad dc D A s o)) (H : Heap) (locs : List Loc) (ls : Array Slot) (hl : lv_has ls 9 [(0, .ref (ad 0)), (2, .int a2), (3, .int a3)]) (G : GW mSh mKs ad dc D A s σ H locs) : W p l e RmX6_findSpread s m args below meth c H locs 0 0 Q (F0 m 108 ls [.int t1, .ref (ad 0)]) := by
  have hx := C0.1
  have hb := C0.2.1
  unfold fX6_findSpread_108 at h
  obtain ⟨σ2, h_r1, h⟩ := bn1_e h
  refine g_callVv (rest := []) C0 G hl (ci := 6) rfl (by decide) rfl (kX6_reach (l := l) C0.2.2.2.2.2.2.1 G.2.2.2 h_r1) (cwV 1 C0.2.2.2.2.1 (lw_V q2047 q2049 qs95 q114 q2050) rfl rfl rfl hdX6_reach ⟨Nat.le_of_ble_eq_true rfl, Nat.le_of_ble_eq_true rfl⟩) rfl (Nat.le_of_ble_eq_true rfl) dX6_findSpread_108 ⟨Nat.zero_le _, Nat.zero_le _⟩ (fun H locs G => ?_)
  refine lv_iconst (v := 0) hx hb dX6_findSpread_111 (by decide +kernel) ?_
  refine lv_istore (lv' := [(5, .int 0), (0, .ref (ad 0)), (2, .int a2), (3, .int a3)]) hx hb dX6_findSpread_112 hl (by decide) rfl (fun ls hl => ?_)
  refine lv_iconst (v := 0) hx hb dX6_findSpread_114 (by decide +kernel) ?_
  refine lv_istore (lv' := [(6, .int 0), (5, .int 0), (0, .ref (ad 0)), (2, .int a2), (3, .int a3)]) hx hb dX6_findSpread_115 hl (by decide) rfl (fun ls hl => ?_)
  exact wX6_findSpread_117 C0 a2 a3 0 0 (σ2)  _ h Kr _ _ _ (lv_sub hl [2, 3, 4, 1, 0] rfl) G
set_option maxHeartbeats 400000 in
theorem wX6_findSpread_79 (C0 : Cx ad dc D RX6 cX6_findSpread 9 p s m args meth c) (a1 : Int32) (a2 : Int32) (a3 : Int32) (a4 : Int32) (σ : St)  (o : St) (h : fX6_findSpread_79 a1 a2 a3 a4 σ = some o) (Kr : KrV p l e RmX6_findSpread s m args below meth c cX6_findSpread Q (GW mSh mKs ad dc D A s o)) (H : Heap) (locs : List Loc) (ls : Array Slot) (hl : lv_has ls 9 [(0, .ref (ad 0)), (1, .int a1), (2, .int a2), (3, .int a3), (4, .int a4)]) (G : GW mSh mKs ad dc D A s σ H locs) : W p l e RmX6_findSpread s m args below meth c H locs 0 0 Q (F0 m 79 ls []) := by
  have hx := C0.1
  have hb := C0.2.1
  unfold fX6_findSpread_79 at h
  refine lv_iload hx hb dX6_findSpread_79 (lv_at hl 4 rfl) ?_
  refine lv_if_ne (tgt := 85) hx hb dX6_findSpread_81 (by decide) (fun c1 => ?_) (fun c1 => ?_)
  · have h := ite_f h c1
    refine lv_aload_n hx hb dX6_findSpread_85 rfl (lv_at hl 0 rfl) ?_
    refine lv_aload_n hx hb dX6_findSpread_86 rfl (lv_at hl 0 rfl) ?_
    refine lv_iload_n hx hb dX6_findSpread_87 rfl (lv_at hl 1 rfl) ?_
    refine lv_iload_n hx hb dX6_findSpread_88 rfl (lv_at hl 2 rfl) ?_
    obtain ⟨r2, h_r2, h⟩ := bn1_e h
    refine g_callVi (rest := [.ref (ad 0)]) C0 G hl (ci := 6) rfl (by decide) rfl (kX6_ironOf (l := l) C0.2.2.2.2.2.2.1 G.2.2.2 h_r2) (cwV 2 C0.2.2.2.2.1 (lw_V q2043 q2045 qs94 q114 q2046) rfl rfl rfl hdX6_ironOf ⟨Nat.le_of_ble_eq_true rfl, Nat.le_of_ble_eq_true rfl⟩) rfl (Nat.le_of_ble_eq_true rfl) dX6_findSpread_89 ⟨Nat.zero_le _, Nat.zero_le _⟩ (fun H locs G => ?_)
    refine lv_iconst (v := 1) hx hb dX6_findSpread_92 (by decide +kernel) ?_
    refine lv_icmp_le (tgt := 107) hx hb dX6_findSpread_93 (by decide) (fun c3 => ?_) (fun c3 => ?_)
    · have h := ite_t h c3
      refine lv_iload_n hx hb dX6_findSpread_107 rfl (lv_at hl 1 rfl) ?_
      exact wX6_findSpread_108 C0 a2 a3 a1 (σ)  _ h Kr _ _ _ (lv_sub hl [0, 2, 3] rfl) G
    · have h := ite_f h c3
      refine lv_iload_n hx hb dX6_findSpread_96 rfl (lv_at hl 1 rfl) ?_
      refine lv_aload_n hx hb dX6_findSpread_97 rfl (lv_at hl 0 rfl) ?_
      refine m_getC C0 G 50 (by decide) rfl q1564 dX6_findSpread_98 ?_
      refine lv_iload_n hx hb dX6_findSpread_101 rfl (lv_at hl 2 rfl) ?_
      obtain ⟨b_4, h⟩ := ckB_e h
      refine g_iald C0 G (n := 5) (by decide) rfl b_4 dX6_findSpread_102 ?_
      refine lv_isub hx hb dX6_findSpread_103 ?_
      refine lv_goto (tgt := 108) hx hb dX6_findSpread_104 (by decide) ?_
      exact wX6_findSpread_108 C0 a2 a3 (a1 - (gA σ 18 a2.toNatClampNeg)) (σ)  _ h Kr _ _ _ (lv_sub hl [0, 2, 3] rfl) G
  · have h := ite_t h c1
    cases h
    exact Kr _ _ _ _ dX6_findSpread_84 G
set_option maxHeartbeats 400000 in
theorem wbX6_findSpread_21 (C0 : Cx ad dc D RX6 cX6_findSpread 9 p s m args meth c) (a1 : Int32) (a2 : Int32) (a3 : Int32) (a4 : Int32) (a5 : Int32) (σ : St)  (o : (Int32) ⊕ (Int32 × Int32)) (h : bX6_findSpread_21 a1 a2 a3 a4 a5 σ = some o) (Kb : ∀ (b4 : Int32) (b5 : Int32), o = .inr (b4, b5) → ∀ (H : Heap) (locs : List Loc) (ls : Array Slot), lv_has ls 9 [(0, .ref (ad 0)), (1, .int a1), (2, .int a2), (3, .int a3), (4, .int b4), (5, .int b5)] → GW mSh mKs ad dc D A s σ H locs → W p l e RmX6_findSpread s m args below meth c H locs 0 0 Q (F0 m 21 ls [])) (Ke0 : ∀ (b4 : Int32), o = .inl b4 → ∀ (H : Heap) (locs : List Loc) (ls : Array Slot), lv_has ls 9 [(0, .ref (ad 0)), (1, .int a1), (2, .int a2), (3, .int a3), (4, .int b4)] → GW mSh mKs ad dc D A s σ H locs → W p l e RmX6_findSpread s m args below meth c H locs 0 0 Q (F0 m 79 ls [])) (H : Heap) (locs : List Loc) (ls : Array Slot) (hl : lv_has ls 9 [(0, .ref (ad 0)), (1, .int a1), (2, .int a2), (3, .int a3), (4, .int a4), (5, .int a5)]) (G : GW mSh mKs ad dc D A s σ H locs) : W p l e RmX6_findSpread s m args below meth c H locs 0 0 Q (F0 m 21 ls []) := by
  have hx := C0.1
  have hb := C0.2.1
  unfold bX6_findSpread_21 at h
  refine lv_iload hx hb dX6_findSpread_21 (lv_at hl 5 rfl) ?_
  refine lv_aload_n hx hb dX6_findSpread_23 rfl (lv_at hl 0 rfl) ?_
  refine m_getC C0 G 3 (by decide) rfl q1517 dX6_findSpread_24 ?_
  refine lv_iconst (v := 0) hx hb dX6_findSpread_27 (by decide +kernel) ?_
  obtain ⟨b_1, h⟩ := ckB_e h
  refine g_iald C0 G (n := 8060) (by decide) rfl b_1 dX6_findSpread_28 ?_
  refine lv_icmp_ge (tgt := 79) hx hb dX6_findSpread_29 (by decide) (fun c2 => ?_) (fun c2 => ?_)
  · have h := ite_t h c2
    cases h
    exact Ke0 a4 rfl _ _ _ (lv_sub hl [0, 1, 2, 3, 4] rfl) G
  · have h := ite_f h c2
    refine lv_iload hx hb dX6_findSpread_32 (lv_at hl 4 rfl) ?_
    refine lv_if_ne (tgt := 66) hx hb dX6_findSpread_34 (by decide) (fun c3 => ?_) (fun c3 => ?_)
    · have h := ite_f h c3
      exact wX6_findSpread_66 C0 a1 a2 a3 a5 (σ)  _ h Kb Ke0 _ _ _ (lv_sub hl [0, 1, 2, 3, 5] rfl) G
    · have h := ite_t h c3
      refine lv_iload hx hb dX6_findSpread_37 (lv_at hl 5 rfl) ?_
      refine lv_iload_n hx hb dX6_findSpread_39 rfl (lv_at hl 2 rfl) ?_
      obtain ⟨r4, h_r4, h⟩ := bn1_e h
      refine g_callSi (rest := []) C0 G hl (kX6_isNear (l := l) C0.2.2.2.2.2.2.1 G.2.2.2 h_r4) (va_cwS 2 C0.2.2.2.2.1 (lw_S q1954 q1955 q114 q1956) rfl rfl rfl hdX6_isNear ⟨Nat.le_of_ble_eq_true rfl, Nat.le_of_ble_eq_true rfl⟩) rfl (Nat.le_of_ble_eq_true rfl) dX6_findSpread_40 ⟨Nat.zero_le _, Nat.zero_le _⟩ (fun H locs G => ?_)
      refine lv_if_ne (tgt := 70) hx hb dX6_findSpread_43 (by decide) (fun c5 => ?_) (fun c5 => ?_)
      · have h := ite_f h c5
        refine lv_iconst (v := 0) hx hb dX6_findSpread_70 (by decide +kernel) ?_
        refine lv_istore (lv' := [(4, .int 0), (0, .ref (ad 0)), (1, .int a1), (2, .int a2), (3, .int a3), (5, .int a5)]) hx hb dX6_findSpread_71 hl (by decide) rfl (fun ls hl => ?_)
        obtain ⟨x6, e_x6⟩ : ∃ z : Int32, z = a5 + 1 := ⟨_, rfl⟩
        have h := letB_e h e_x6
        refine lv_iinc (v := x6) (lv' := [(5, .int x6), (4, .int 0), (0, .ref (ad 0)), (1, .int a1), (2, .int a2), (3, .int a3)]) hx hb dX6_findSpread_73 hl (k := 5) rfl ((congrArg (fun z => a5 + z) (show Int32.ofInt 1 = 1 by decide)).trans e_x6.symm) (by decide) rfl (fun ls hl => ?_)
        refine lv_goto (tgt := 21) hx hb dX6_findSpread_76 (by decide) ?_
        cases h
        exact Kb 0 x6 rfl _ _ _ (lv_sub hl [2, 3, 4, 5, 1, 0] rfl) G
      · have h := ite_t h c5
        refine lv_aload_n hx hb dX6_findSpread_46 rfl (lv_at hl 0 rfl) ?_
        refine m_getC C0 G 3 (by decide) rfl q1517 dX6_findSpread_47 ?_
        refine lv_iconst (v := 3) hx hb dX6_findSpread_50 (by decide +kernel) ?_
        obtain ⟨b_7, h⟩ := ckB_e h
        refine g_iald C0 G (n := 8060) (by decide) rfl b_7 dX6_findSpread_51 ?_
        refine lv_aload_n hx hb dX6_findSpread_52 rfl (lv_at hl 0 rfl) ?_
        refine lv_iload_n hx hb dX6_findSpread_53 rfl (lv_at hl 1 rfl) ?_
        refine lv_iload hx hb dX6_findSpread_54 (lv_at hl 5 rfl) ?_
        obtain ⟨r8, h_r8, h⟩ := bn1_e h
        refine g_callVi (rest := [.int (gA σ 2 (3 : Int32).toNatClampNeg)]) C0 G hl (ci := 6) rfl (by decide) rfl (kX6_ironOf (l := l) C0.2.2.2.2.2.2.1 G.2.2.2 h_r8) (cwV 2 C0.2.2.2.2.1 (lw_V q2043 q2045 qs94 q114 q2046) rfl rfl rfl hdX6_ironOf ⟨Nat.le_of_ble_eq_true rfl, Nat.le_of_ble_eq_true rfl⟩) rfl (Nat.le_of_ble_eq_true rfl) dX6_findSpread_56 ⟨Nat.zero_le _, Nat.zero_le _⟩ (fun H locs G => ?_)
        refine lv_ishr hx hb dX6_findSpread_59 ?_
        refine lv_iconst (v := 1) hx hb dX6_findSpread_60 (by decide +kernel) ?_
        refine lv_iand hx hb dX6_findSpread_61 ?_
        refine lv_iconst (v := 1) hx hb dX6_findSpread_62 (by decide +kernel) ?_
        refine lv_icmp_ne (tgt := 70) hx hb dX6_findSpread_63 (by decide) (fun c9 => ?_) (fun c9 => ?_)
        · have h := ite_f h c9
          refine lv_iconst (v := 0) hx hb dX6_findSpread_70 (by decide +kernel) ?_
          refine lv_istore (lv' := [(4, .int 0), (0, .ref (ad 0)), (1, .int a1), (2, .int a2), (3, .int a3), (5, .int a5)]) hx hb dX6_findSpread_71 hl (by decide) rfl (fun ls hl => ?_)
          obtain ⟨x10, e_x10⟩ : ∃ z : Int32, z = a5 + 1 := ⟨_, rfl⟩
          have h := letB_e h e_x10
          refine lv_iinc (v := x10) (lv' := [(5, .int x10), (4, .int 0), (0, .ref (ad 0)), (1, .int a1), (2, .int a2), (3, .int a3)]) hx hb dX6_findSpread_73 hl (k := 5) rfl ((congrArg (fun z => a5 + z) (show Int32.ofInt 1 = 1 by decide)).trans e_x10.symm) (by decide) rfl (fun ls hl => ?_)
          refine lv_goto (tgt := 21) hx hb dX6_findSpread_76 (by decide) ?_
          cases h
          exact Kb 0 x10 rfl _ _ _ (lv_sub hl [2, 3, 4, 5, 1, 0] rfl) G
        · have h := ite_t h c9
          exact wX6_findSpread_66 C0 a1 a2 a3 a5 (σ)  _ h Kb Ke0 _ _ _ (lv_sub hl [0, 1, 2, 3, 5] rfl) G
set_option maxHeartbeats 400000 in
theorem lX6_findSpread_21 (C0 : Cx ad dc D RX6 cX6_findSpread 9 p s m args meth c) (a1 : Int32) (a2 : Int32) (a3 : Int32) (σ : St)  : ∀ (n : Nat) (a4 : Int32) (a5 : Int32) (ex : Int32) (h : iter (fun v : Int32 × Int32 => bX6_findSpread_21 a1 a2 a3 v.1 v.2 σ) n (a4, a5) = some ex) (Ke0 : ∀ (b4 : Int32), ex = b4 → ∀ (H : Heap) (locs : List Loc) (ls : Array Slot), lv_has ls 9 [(0, .ref (ad 0)), (1, .int a1), (2, .int a2), (3, .int a3), (4, .int b4)] → GW mSh mKs ad dc D A s σ H locs → W p l e RmX6_findSpread s m args below meth c H locs 0 0 Q (F0 m 79 ls [])) (H : Heap) (locs : List Loc) (ls : Array Slot) (hl : lv_has ls 9 [(0, .ref (ad 0)), (1, .int a1), (2, .int a2), (3, .int a3), (4, .int a4), (5, .int a5)]) (G : GW mSh mKs ad dc D A s σ H locs), W p l e RmX6_findSpread s m args below meth c H locs 0 0 Q (F0 m 21 ls []) := by
  intro n
  induction n with
  | zero =>
    intro a4 a5 ex h
    cases h
  | succ n ih =>
    intro a4 a5 ex h Ke0 H locs ls hl G
    obtain ⟨r, hb1, hr⟩ := iter_e h
    refine wbX6_findSpread_21 C0 a1 a2 a3 a4 a5 σ  r hb1 ?_ ?_ H locs ls hl G
    · intro b4 b5 hv H locs ls hl G
      subst hv
      rcases hr with hr | ⟨a', hr, h2⟩
      · cases hr
      · rw [← Sum.inr.inj hr] at h2
        exact ih b4 b5 ex h2 Ke0 H locs ls hl G
    · intro b4 hv H locs ls hl G
      subst hv
      rcases hr with hr | ⟨a', hr, h2⟩
      · exact Ke0 b4 (Sum.inl.inj hr).symm H locs ls hl G
      · cases hr
set_option maxHeartbeats 400000 in
theorem wX6_findSpread_21 (C0 : Cx ad dc D RX6 cX6_findSpread 9 p s m args meth c) (a1 : Int32) (a2 : Int32) (a3 : Int32) (a4 : Int32) (a5 : Int32) (σ : St)  (o : St) (h : fX6_findSpread_21 a1 a2 a3 a4 a5 σ = some o) (Kr : KrV p l e RmX6_findSpread s m args below meth c cX6_findSpread Q (GW mSh mKs ad dc D A s o)) (H : Heap) (locs : List Loc) (ls : Array Slot) (hl : lv_has ls 9 [(0, .ref (ad 0)), (1, .int a1), (2, .int a2), (3, .int a3), (4, .int a4), (5, .int a5)]) (G : GW mSh mKs ad dc D A s σ H locs) : W p l e RmX6_findSpread s m args below meth c H locs 0 0 Q (F0 m 21 ls []) := by
  have hx := C0.1
  have hb := C0.2.1
  unfold fX6_findSpread_21 at h
  obtain ⟨ex, h1, h⟩ := bn1_e h
  refine lX6_findSpread_21 C0 a1 a2 a3 σ  FU a4 a5 ex h1 ?_ H locs ls hl G
  · intro b4 hv H locs ls hl G
    rw [hv] at h
    have h : (fX6_findSpread_79 a1 a2 a3 b4 (σ)) = some o := h
    exact wX6_findSpread_79 C0 a1 a2 a3 b4 (σ)  _ h Kr _ _ _ hl G
set_option maxHeartbeats 400000 in
theorem wX6_findSpread_0 (C0 : Cx ad dc D RX6 cX6_findSpread 9 p s m args meth c) (a1 : Int32) (a2 : Int32) (a3 : Int32) (σ : St)  (o : St) (h : fX6_findSpread a1 a2 a3 σ = some o) (Kr : KrV p l e RmX6_findSpread s m args below meth c cX6_findSpread Q (GW mSh mKs ad dc D A s o)) (H : Heap) (locs : List Loc) (ls : Array Slot) (hl : lv_has ls 9 [(0, .ref (ad 0)), (1, .int a1), (2, .int a2), (3, .int a3)]) (G : GW mSh mKs ad dc D A s σ H locs) : W p l e RmX6_findSpread s m args below meth c H locs 0 0 Q (F0 m 0 ls []) := by
  have hx := C0.1
  have hb := C0.2.1
  unfold fX6_findSpread at h
  refine lv_aload_n hx hb dX6_findSpread_0 rfl (lv_at hl 0 rfl) ?_
  refine lv_dup hx hb dX6_findSpread_1 rfl ?_
  refine m_getI C0 G 56 (by decide) rfl q1570 dX6_findSpread_2 ?_
  refine lv_iconst (v := 1) hx hb dX6_findSpread_5 (by decide +kernel) ?_
  refine lv_iadd hx hb dX6_findSpread_6 ?_
  refine m_putI C0 G 56 (by decide) rfl q1570 rfl dX6_findSpread_7 ⟨rfl, rfl⟩ (fun σ1 H locs e_σ1 G => ?_)
  have h := letB_e h e_σ1
  refine lv_aload_n hx hb dX6_findSpread_10 rfl (lv_at hl 0 rfl) ?_
  refine lv_iconst (v := 0) hx hb dX6_findSpread_11 (by decide +kernel) ?_
  refine m_putI C0 G 58 (by decide) rfl q1572 rfl dX6_findSpread_12 ⟨rfl, rfl⟩ (fun σ2 H locs e_σ2 G => ?_)
  have h := letB_e h e_σ2
  refine lv_iconst (v := 0) hx hb dX6_findSpread_15 (by decide +kernel) ?_
  refine lv_istore (lv' := [(4, .int 0), (0, .ref (ad 0)), (1, .int a1), (2, .int a2), (3, .int a3)]) hx hb dX6_findSpread_16 hl (by decide) rfl (fun ls hl => ?_)
  refine lv_iconst (v := 0) hx hb dX6_findSpread_18 (by decide +kernel) ?_
  refine lv_istore (lv' := [(5, .int 0), (4, .int 0), (0, .ref (ad 0)), (1, .int a1), (2, .int a2), (3, .int a3)]) hx hb dX6_findSpread_19 hl (by decide) rfl (fun ls hl => ?_)
  exact wX6_findSpread_21 C0 a1 a2 a3 0 0 (σ2)  _ h Kr _ _ _ (lv_sub hl [2, 3, 4, 5, 1, 0] rfl) G
theorem kX6_findSpread {l : Launch} {ad : Nat → Nat} {dc : Nat → ClassId} {D : va_G} {A : Nat → Prop}  (hi : ∀ i j, ad i = ad j → i = j) (hA : ∀ k, k ∈ mKs → A (ad k)) {σ : St} {a1 : Int32} {a2 : Int32} {a3 : Int32}  {σ' : St}  (h : fX6_findSpread a1 a2 a3 σ = some (σ')) : Met l yX6_findSpread (ws_ yX6_findSpread cX6_findSpread 9 none) RmX6_findSpread (gPc mSh mKs ad dc D σ [.ref (ad 0), .int a1, .int a2, .int a3]) (gQv mSh mKs ad dc D A σ') 0 0 A :=
  g_metV (by decide) rfl hi mKs_nd hA (Nat.le_of_ble_eq_true rfl) (fun p e s m below meth c Q C0 Kr ls hl G => wX6_findSpread_0 C0 a1 a2 a3 σ  (σ') h Kr _ _ ls hl G)
-- X6_findLevels
abbrev RmX6_findLevels : Room := { frames := 4, cells := 0, slots := 0, locals := 100 }
theorem hdX6_findLevels : yX6_findLevels.cls = RX6 ∧ yX6_findLevels.cls ≠ "java/lang/invoke/MethodHandle" ∧ yX6_findLevels.cls ≠ "java/lang/invoke/VarHandle" ∧ (parseMethodDescriptor yX6_findLevels.desc).map (fun d => d.parameters.length) = some 4 := by decide +kernel
set_option maxHeartbeats 400000 in
theorem wbX6_findLevels_116 (C0 : Cx ad dc D RX6 cX6_findLevels 9 p s m args meth c) (a2 : Int32) (a3 : Int32) (a4 : Int32) (a5 : Int32) (a6 : Int32) (a7 : Int32) (a8 : Int32) (σ : St)  (o : (St) ⊕ (Int32 × St)) (h : bX6_findLevels_116 a2 a3 a4 a5 a6 a7 a8 σ = some o) (Kb : ∀ (b8 : Int32) (σ' : St), o = .inr (b8, σ') → ∀ (H : Heap) (locs : List Loc) (ls : Array Slot), lv_has ls 9 [(0, .ref (ad 0)), (2, .int a2), (3, .int a3), (4, .int a4), (5, .int a5), (6, .int a6), (7, .int a7), (8, .int b8)] → GW mSh mKs ad dc D A s σ' H locs → W p l e RmX6_findLevels s m args below meth c H locs 0 0 Q (F0 m 116 ls [])) (Ke0 : ∀  (σ' : St), o = .inl (σ') → ∀ (H : Heap) (locs : List Loc) (ls : Array Slot), lv_has ls 9 [(0, .ref (ad 0)), (2, .int a2), (3, .int a3), (4, .int a4), (5, .int a5), (6, .int a6), (7, .int a7)] → GW mSh mKs ad dc D A s σ' H locs → W p l e RmX6_findLevels s m args below meth c H locs 0 0 Q (F0 m 152 ls [])) (H : Heap) (locs : List Loc) (ls : Array Slot) (hl : lv_has ls 9 [(0, .ref (ad 0)), (2, .int a2), (3, .int a3), (4, .int a4), (5, .int a5), (6, .int a6), (7, .int a7), (8, .int a8)]) (G : GW mSh mKs ad dc D A s σ H locs) : W p l e RmX6_findLevels s m args below meth c H locs 0 0 Q (F0 m 116 ls []) := by
  have hx := C0.1
  have hb := C0.2.1
  unfold bX6_findLevels_116 at h
  refine lv_iload hx hb dX6_findLevels_116 (lv_at hl 7 rfl) ?_
  refine lv_aload_n hx hb dX6_findLevels_118 rfl (lv_at hl 0 rfl) ?_
  refine m_getI C0 G 58 (by decide) rfl q1572 dX6_findLevels_119 ?_
  refine lv_icmp_ge (tgt := 152) hx hb dX6_findLevels_122 (by decide) (fun c1 => ?_) (fun c1 => ?_)
  · have h := ite_t h c1
    cases h
    exact Ke0 (σ) rfl _ _ _ (lv_sub hl [0, 1, 2, 3, 4, 5, 6] rfl) G
  · have h := ite_f h c1
    refine lv_aload_n hx hb dX6_findLevels_125 rfl (lv_at hl 0 rfl) ?_
    refine m_getC C0 G 51 (by decide) rfl q1565 dX6_findLevels_126 ?_
    refine lv_aload_n hx hb dX6_findLevels_129 rfl (lv_at hl 0 rfl) ?_
    refine m_getC C0 G 57 (by decide) rfl q1571 dX6_findLevels_130 ?_
    refine lv_iload hx hb dX6_findLevels_133 (lv_at hl 7 rfl) ?_
    obtain ⟨b_2, h⟩ := ckB_e h
    refine g_iald C0 G (n := 59049) (by decide) rfl b_2 dX6_findLevels_135 ?_
    refine lv_topi (fun x3 e_x3 => ?_)
    have h := letB_e h e_x3
    refine lv_dup2_11 hx hb dX6_findLevels_136 rfl rfl ?_
    obtain ⟨b_4, h⟩ := ckB_e h
    refine g_iald C0 G (n := 59049) (by decide) rfl b_4 dX6_findLevels_137 ?_
    refine lv_iconst (v := 1) hx hb dX6_findLevels_138 (by decide +kernel) ?_
    refine lv_iload hx hb dX6_findLevels_139 (lv_at hl 4 rfl) ?_
    refine lv_iconst (v := 1) hx hb dX6_findLevels_141 (by decide +kernel) ?_
    refine lv_iadd hx hb dX6_findLevels_142 ?_
    refine lv_ishl hx hb dX6_findLevels_143 ?_
    refine lv_ior hx hb dX6_findLevels_144 ?_
    obtain ⟨b_5, h⟩ := ckB_e h
    refine g_iast C0 G (n := 59049) (by decide) rfl b_5 dX6_findLevels_145 (fun σ6 H locs e_σ6 G => ?_)
    have h := letB_e h e_σ6
    obtain ⟨x7, e_x7⟩ : ∃ z : Int32, z = a8 + 1 := ⟨_, rfl⟩
    have h := letB_e h e_x7
    refine lv_iinc (v := x7) (lv' := [(8, .int x7), (0, .ref (ad 0)), (2, .int a2), (3, .int a3), (4, .int a4), (5, .int a5), (6, .int a6), (7, .int a7)]) hx hb dX6_findLevels_146 hl (k := 7) rfl ((congrArg (fun z => a8 + z) (show Int32.ofInt 1 = 1 by decide)).trans e_x7.symm) (by decide) rfl (fun ls hl => ?_)
    refine lv_goto (tgt := 116) hx hb dX6_findLevels_149 (by decide) ?_
    cases h
    exact Kb x7 (σ6) rfl _ _ _ (lv_sub hl [1, 2, 3, 4, 5, 6, 7, 0] rfl) G
set_option maxHeartbeats 400000 in
theorem lX6_findLevels_116 (C0 : Cx ad dc D RX6 cX6_findLevels 9 p s m args meth c) (a2 : Int32) (a3 : Int32) (a4 : Int32) (a5 : Int32) (a6 : Int32) (a7 : Int32)   : ∀ (n : Nat) (a8 : Int32) (σ : St) (ex : St) (h : iter (fun v : Int32 × St => bX6_findLevels_116 a2 a3 a4 a5 a6 a7 v.1 v.2) n (a8, σ) = some ex) (Ke0 : ∀  (σ' : St), ex = σ' → ∀ (H : Heap) (locs : List Loc) (ls : Array Slot), lv_has ls 9 [(0, .ref (ad 0)), (2, .int a2), (3, .int a3), (4, .int a4), (5, .int a5), (6, .int a6), (7, .int a7)] → GW mSh mKs ad dc D A s σ' H locs → W p l e RmX6_findLevels s m args below meth c H locs 0 0 Q (F0 m 152 ls [])) (H : Heap) (locs : List Loc) (ls : Array Slot) (hl : lv_has ls 9 [(0, .ref (ad 0)), (2, .int a2), (3, .int a3), (4, .int a4), (5, .int a5), (6, .int a6), (7, .int a7), (8, .int a8)]) (G : GW mSh mKs ad dc D A s σ H locs), W p l e RmX6_findLevels s m args below meth c H locs 0 0 Q (F0 m 116 ls []) := by
  intro n
  induction n with
  | zero =>
    intro a8 σ ex h
    cases h
  | succ n ih =>
    intro a8 σ ex h Ke0 H locs ls hl G
    obtain ⟨r, hb1, hr⟩ := iter_e h
    refine wbX6_findLevels_116 C0 a2 a3 a4 a5 a6 a7 a8 σ  r hb1 ?_ ?_ H locs ls hl G
    · intro b8 σ' hv H locs ls hl G
      subst hv
      rcases hr with hr | ⟨a', hr, h2⟩
      · cases hr
      · rw [← Sum.inr.inj hr] at h2
        exact ih b8 σ' ex h2 Ke0 H locs ls hl G
    · intro σ' hv H locs ls hl G
      subst hv
      rcases hr with hr | ⟨a', hr, h2⟩
      · exact Ke0 σ' (Sum.inl.inj hr).symm H locs ls hl G
      · cases hr
set_option maxHeartbeats 400000 in
theorem wX6_findLevels_116 (C0 : Cx ad dc D RX6 cX6_findLevels 9 p s m args meth c) (a2 : Int32) (a3 : Int32) (a4 : Int32) (a5 : Int32) (a6 : Int32) (a7 : Int32) (a8 : Int32) (σ : St)  (o : (St) ⊕ (Int32 × St)) (h : fX6_findLevels_116 a2 a3 a4 a5 a6 a7 a8 σ = some o) (Kb : ∀ (b7 : Int32) (σ' : St), o = .inr (b7, σ') → ∀ (H : Heap) (locs : List Loc) (ls : Array Slot), lv_has ls 9 [(0, .ref (ad 0)), (2, .int a2), (3, .int a3), (4, .int a4), (5, .int a5), (6, .int a6), (7, .int b7)] → GW mSh mKs ad dc D A s σ' H locs → W p l e RmX6_findLevels s m args below meth c H locs 0 0 Q (F0 m 77 ls [])) (Ke0 : ∀  (σ' : St), o = .inl (σ') → ∀ (H : Heap) (locs : List Loc) (ls : Array Slot), lv_has ls 9 [(0, .ref (ad 0)), (2, .int a2), (3, .int a3), (4, .int a4), (5, .int a5), (6, .int a6)] → GW mSh mKs ad dc D A s σ' H locs → W p l e RmX6_findLevels s m args below meth c H locs 0 0 Q (F0 m 158 ls [])) (H : Heap) (locs : List Loc) (ls : Array Slot) (hl : lv_has ls 9 [(0, .ref (ad 0)), (2, .int a2), (3, .int a3), (4, .int a4), (5, .int a5), (6, .int a6), (7, .int a7), (8, .int a8)]) (G : GW mSh mKs ad dc D A s σ H locs) : W p l e RmX6_findLevels s m args below meth c H locs 0 0 Q (F0 m 116 ls []) := by
  have hx := C0.1
  have hb := C0.2.1
  unfold fX6_findLevels_116 at h
  obtain ⟨ex, h1, h⟩ := bn1_e h
  refine lX6_findLevels_116 C0 a2 a3 a4 a5 a6 a7   FU a8 σ ex h1 ?_ H locs ls hl G
  · intro σ' hv H locs ls hl G
    rw [hv] at h
    have h : (letB (a7 + 1) (fun x1 => some (.inr (x1, σ')))) = some o := h
    obtain ⟨x1, e_x1⟩ : ∃ z : Int32, z = a7 + 1 := ⟨_, rfl⟩
    have h := letB_e h e_x1
    refine lv_iinc (v := x1) (lv' := [(7, .int x1), (0, .ref (ad 0)), (2, .int a2), (3, .int a3), (4, .int a4), (5, .int a5), (6, .int a6)]) hx hb dX6_findLevels_152 hl (k := 6) rfl ((congrArg (fun z => a7 + z) (show Int32.ofInt 1 = 1 by decide)).trans e_x1.symm) (by decide) rfl (fun ls hl => ?_)
    refine lv_goto (tgt := 77) hx hb dX6_findLevels_155 (by decide) ?_
    cases h
    exact Kb x1 (σ') rfl _ _ _ (lv_sub hl [1, 2, 3, 4, 5, 6, 0] rfl) G
set_option maxHeartbeats 400000 in
theorem wbX6_findLevels_77 (C0 : Cx ad dc D RX6 cX6_findLevels 9 p s m args meth c) (a2 : Int32) (a3 : Int32) (a4 : Int32) (a5 : Int32) (a6 : Int32) (a7 : Int32) (σ : St)  (o : (St) ⊕ (Int32 × St)) (h : bX6_findLevels_77 a2 a3 a4 a5 a6 a7 σ = some o) (Kb : ∀ (b7 : Int32) (σ' : St), o = .inr (b7, σ') → ∀ (H : Heap) (locs : List Loc) (ls : Array Slot), lv_has ls 9 [(0, .ref (ad 0)), (2, .int a2), (3, .int a3), (4, .int a4), (5, .int a5), (6, .int a6), (7, .int b7)] → GW mSh mKs ad dc D A s σ' H locs → W p l e RmX6_findLevels s m args below meth c H locs 0 0 Q (F0 m 77 ls [])) (Ke0 : ∀  (σ' : St), o = .inl (σ') → ∀ (H : Heap) (locs : List Loc) (ls : Array Slot), lv_has ls 9 [(0, .ref (ad 0)), (2, .int a2), (3, .int a3), (4, .int a4), (5, .int a5), (6, .int a6)] → GW mSh mKs ad dc D A s σ' H locs → W p l e RmX6_findLevels s m args below meth c H locs 0 0 Q (F0 m 158 ls [])) (H : Heap) (locs : List Loc) (ls : Array Slot) (hl : lv_has ls 9 [(0, .ref (ad 0)), (2, .int a2), (3, .int a3), (4, .int a4), (5, .int a5), (6, .int a6), (7, .int a7)]) (G : GW mSh mKs ad dc D A s σ H locs) : W p l e RmX6_findLevels s m args below meth c H locs 0 0 Q (F0 m 77 ls []) := by
  have hx := C0.1
  have hb := C0.2.1
  unfold bX6_findLevels_77 at h
  refine lv_iload hx hb dX6_findLevels_77 (lv_at hl 6 rfl) ?_
  refine lv_aload_n hx hb dX6_findLevels_79 rfl (lv_at hl 0 rfl) ?_
  refine m_getC C0 G 3 (by decide) rfl q1517 dX6_findLevels_80 ?_
  refine lv_iconst (v := 0) hx hb dX6_findLevels_83 (by decide +kernel) ?_
  obtain ⟨b_1, h⟩ := ckB_e h
  refine g_iald C0 G (n := 8060) (by decide) rfl b_1 dX6_findLevels_84 ?_
  refine lv_icmp_ge (tgt := 158) hx hb dX6_findLevels_85 (by decide) (fun c2 => ?_) (fun c2 => ?_)
  · have h := ite_t h c2
    cases h
    exact Ke0 (σ) rfl _ _ _ (lv_sub hl [0, 1, 2, 3, 4, 5] rfl) G
  · have h := ite_f h c2
    refine lv_aload_n hx hb dX6_findLevels_88 rfl (lv_at hl 0 rfl) ?_
    refine m_getC C0 G 51 (by decide) rfl q1565 dX6_findLevels_89 ?_
    refine lv_iload hx hb dX6_findLevels_92 (lv_at hl 5 rfl) ?_
    obtain ⟨b_3, h⟩ := ckB_e h
    refine g_iald C0 G (n := 59049) (by decide) rfl b_3 dX6_findLevels_94 ?_
    refine lv_iload hx hb dX6_findLevels_95 (lv_at hl 4 rfl) ?_
    refine lv_ishr hx hb dX6_findLevels_97 ?_
    refine lv_iconst (v := 1) hx hb dX6_findLevels_98 (by decide +kernel) ?_
    refine lv_iand hx hb dX6_findLevels_99 ?_
    refine lv_iconst (v := 1) hx hb dX6_findLevels_100 (by decide +kernel) ?_
    refine lv_icmp_ne (tgt := 158) hx hb dX6_findLevels_101 (by decide) (fun c4 => ?_) (fun c4 => ?_)
    · have h := ite_f h c4
      cases h
      exact Ke0 (σ) rfl _ _ _ (lv_sub hl [0, 1, 2, 3, 4, 5] rfl) G
    · have h := ite_t h c4
      refine lv_aload_n hx hb dX6_findLevels_104 rfl (lv_at hl 0 rfl) ?_
      refine lv_iload hx hb dX6_findLevels_105 (lv_at hl 5 rfl) ?_
      refine lv_iload hx hb dX6_findLevels_107 (lv_at hl 6 rfl) ?_
      refine lv_iload_n hx hb dX6_findLevels_109 rfl (lv_at hl 1 rfl) ?_
      obtain ⟨σ6, h_r5, h⟩ := bn1_e h
      refine g_callVv (rest := []) C0 G hl (ci := 6) rfl (by decide) rfl (kX6_findSpread (l := l) C0.2.2.2.2.2.2.1 G.2.2.2 h_r5) (cwV 3 C0.2.2.2.2.1 (lw_V q2039 q2041 qs93 q114 q2042) rfl rfl rfl hdX6_findSpread ⟨Nat.le_of_ble_eq_true rfl, Nat.le_of_ble_eq_true rfl⟩) rfl (Nat.le_of_ble_eq_true rfl) dX6_findLevels_110 ⟨Nat.zero_le _, Nat.zero_le _⟩ (fun H locs G => ?_)
      refine lv_iconst (v := 0) hx hb dX6_findLevels_113 (by decide +kernel) ?_
      refine lv_istore (lv' := [(8, .int 0), (0, .ref (ad 0)), (2, .int a2), (3, .int a3), (4, .int a4), (5, .int a5), (6, .int a6), (7, .int a7)]) hx hb dX6_findLevels_114 hl (by decide) rfl (fun ls hl => ?_)
      exact wX6_findLevels_116 C0 a2 a3 a4 a5 a6 a7 0 (σ6)  _ h Kb Ke0 _ _ _ (lv_sub hl [1, 2, 3, 4, 5, 6, 7, 0] rfl) G
set_option maxHeartbeats 400000 in
theorem lX6_findLevels_77 (C0 : Cx ad dc D RX6 cX6_findLevels 9 p s m args meth c) (a2 : Int32) (a3 : Int32) (a4 : Int32) (a5 : Int32) (a6 : Int32)   : ∀ (n : Nat) (a7 : Int32) (σ : St) (ex : St) (h : iter (fun v : Int32 × St => bX6_findLevels_77 a2 a3 a4 a5 a6 v.1 v.2) n (a7, σ) = some ex) (Ke0 : ∀  (σ' : St), ex = σ' → ∀ (H : Heap) (locs : List Loc) (ls : Array Slot), lv_has ls 9 [(0, .ref (ad 0)), (2, .int a2), (3, .int a3), (4, .int a4), (5, .int a5), (6, .int a6)] → GW mSh mKs ad dc D A s σ' H locs → W p l e RmX6_findLevels s m args below meth c H locs 0 0 Q (F0 m 158 ls [])) (H : Heap) (locs : List Loc) (ls : Array Slot) (hl : lv_has ls 9 [(0, .ref (ad 0)), (2, .int a2), (3, .int a3), (4, .int a4), (5, .int a5), (6, .int a6), (7, .int a7)]) (G : GW mSh mKs ad dc D A s σ H locs), W p l e RmX6_findLevels s m args below meth c H locs 0 0 Q (F0 m 77 ls []) := by
  intro n
  induction n with
  | zero =>
    intro a7 σ ex h
    cases h
  | succ n ih =>
    intro a7 σ ex h Ke0 H locs ls hl G
    obtain ⟨r, hb1, hr⟩ := iter_e h
    refine wbX6_findLevels_77 C0 a2 a3 a4 a5 a6 a7 σ  r hb1 ?_ ?_ H locs ls hl G
    · intro b7 σ' hv H locs ls hl G
      subst hv
      rcases hr with hr | ⟨a', hr, h2⟩
      · cases hr
      · rw [← Sum.inr.inj hr] at h2
        exact ih b7 σ' ex h2 Ke0 H locs ls hl G
    · intro σ' hv H locs ls hl G
      subst hv
      rcases hr with hr | ⟨a', hr, h2⟩
      · exact Ke0 σ' (Sum.inl.inj hr).symm H locs ls hl G
      · cases hr
set_option maxHeartbeats 400000 in
theorem wX6_findLevels_77 (C0 : Cx ad dc D RX6 cX6_findLevels 9 p s m args meth c) (a2 : Int32) (a3 : Int32) (a4 : Int32) (a5 : Int32) (a6 : Int32) (a7 : Int32) (σ : St)  (o : (St) ⊕ (Int32 × St)) (h : fX6_findLevels_77 a2 a3 a4 a5 a6 a7 σ = some o) (Kb : ∀ (b6 : Int32) (σ' : St), o = .inr (b6, σ') → ∀ (H : Heap) (locs : List Loc) (ls : Array Slot), lv_has ls 9 [(0, .ref (ad 0)), (2, .int a2), (3, .int a3), (4, .int a4), (5, .int a5), (6, .int b6)] → GW mSh mKs ad dc D A s σ' H locs → W p l e RmX6_findLevels s m args below meth c H locs 0 0 Q (F0 m 67 ls [])) (Ke0 : ∀  (σ' : St), o = .inl (σ') → ∀ (H : Heap) (locs : List Loc) (ls : Array Slot), lv_has ls 9 [(0, .ref (ad 0)), (2, .int a2), (3, .int a3), (4, .int a4), (5, .int a5)] → GW mSh mKs ad dc D A s σ' H locs → W p l e RmX6_findLevels s m args below meth c H locs 0 0 Q (F0 m 164 ls [])) (H : Heap) (locs : List Loc) (ls : Array Slot) (hl : lv_has ls 9 [(0, .ref (ad 0)), (2, .int a2), (3, .int a3), (4, .int a4), (5, .int a5), (6, .int a6), (7, .int a7)]) (G : GW mSh mKs ad dc D A s σ H locs) : W p l e RmX6_findLevels s m args below meth c H locs 0 0 Q (F0 m 77 ls []) := by
  have hx := C0.1
  have hb := C0.2.1
  unfold fX6_findLevels_77 at h
  obtain ⟨ex, h1, h⟩ := bn1_e h
  refine lX6_findLevels_77 C0 a2 a3 a4 a5 a6   FU a7 σ ex h1 ?_ H locs ls hl G
  · intro σ' hv H locs ls hl G
    rw [hv] at h
    have h : (letB (a6 + 1) (fun x1 => some (.inr (x1, σ')))) = some o := h
    obtain ⟨x1, e_x1⟩ : ∃ z : Int32, z = a6 + 1 := ⟨_, rfl⟩
    have h := letB_e h e_x1
    refine lv_iinc (v := x1) (lv' := [(6, .int x1), (0, .ref (ad 0)), (2, .int a2), (3, .int a3), (4, .int a4), (5, .int a5)]) hx hb dX6_findLevels_158 hl (k := 5) rfl ((congrArg (fun z => a6 + z) (show Int32.ofInt 1 = 1 by decide)).trans e_x1.symm) (by decide) rfl (fun ls hl => ?_)
    refine lv_goto (tgt := 67) hx hb dX6_findLevels_161 (by decide) ?_
    cases h
    exact Kb x1 (σ') rfl _ _ _ (lv_sub hl [1, 2, 3, 4, 5, 0] rfl) G
set_option maxHeartbeats 400000 in
theorem wbX6_findLevels_67 (C0 : Cx ad dc D RX6 cX6_findLevels 9 p s m args meth c) (a2 : Int32) (a3 : Int32) (a4 : Int32) (a5 : Int32) (a6 : Int32) (σ : St)  (o : (St) ⊕ (Int32 × St)) (h : bX6_findLevels_67 a2 a3 a4 a5 a6 σ = some o) (Kb : ∀ (b6 : Int32) (σ' : St), o = .inr (b6, σ') → ∀ (H : Heap) (locs : List Loc) (ls : Array Slot), lv_has ls 9 [(0, .ref (ad 0)), (2, .int a2), (3, .int a3), (4, .int a4), (5, .int a5), (6, .int b6)] → GW mSh mKs ad dc D A s σ' H locs → W p l e RmX6_findLevels s m args below meth c H locs 0 0 Q (F0 m 67 ls [])) (Ke0 : ∀  (σ' : St), o = .inl (σ') → ∀ (H : Heap) (locs : List Loc) (ls : Array Slot), lv_has ls 9 [(0, .ref (ad 0)), (2, .int a2), (3, .int a3), (4, .int a4), (5, .int a5)] → GW mSh mKs ad dc D A s σ' H locs → W p l e RmX6_findLevels s m args below meth c H locs 0 0 Q (F0 m 164 ls [])) (H : Heap) (locs : List Loc) (ls : Array Slot) (hl : lv_has ls 9 [(0, .ref (ad 0)), (2, .int a2), (3, .int a3), (4, .int a4), (5, .int a5), (6, .int a6)]) (G : GW mSh mKs ad dc D A s σ H locs) : W p l e RmX6_findLevels s m args below meth c H locs 0 0 Q (F0 m 67 ls []) := by
  have hx := C0.1
  have hb := C0.2.1
  unfold bX6_findLevels_67 at h
  refine lv_iload hx hb dX6_findLevels_67 (lv_at hl 5 rfl) ?_
  refine lv_ldc hx hb C0.2.2.2.1 (C0.2.2.2.2.1 _ q1513) dX6_findLevels_69 ?_
  refine lv_icmp_ge (tgt := 164) hx hb dX6_findLevels_71 (by decide) (fun c1 => ?_) (fun c1 => ?_)
  · have h := ite_t h c1
    cases h
    exact Ke0 (σ) rfl _ _ _ (lv_sub hl [0, 1, 2, 3, 4] rfl) G
  · have h := ite_f h c1
    refine lv_iconst (v := 0) hx hb dX6_findLevels_74 (by decide +kernel) ?_
    refine lv_istore (lv' := [(7, .int 0), (0, .ref (ad 0)), (2, .int a2), (3, .int a3), (4, .int a4), (5, .int a5), (6, .int a6)]) hx hb dX6_findLevels_75 hl (by decide) rfl (fun ls hl => ?_)
    exact wX6_findLevels_77 C0 a2 a3 a4 a5 a6 0 (σ)  _ h Kb Ke0 _ _ _ (lv_sub hl [1, 2, 3, 4, 5, 6, 0] rfl) G
set_option maxHeartbeats 400000 in
theorem lX6_findLevels_67 (C0 : Cx ad dc D RX6 cX6_findLevels 9 p s m args meth c) (a2 : Int32) (a3 : Int32) (a4 : Int32) (a5 : Int32)   : ∀ (n : Nat) (a6 : Int32) (σ : St) (ex : St) (h : iter (fun v : Int32 × St => bX6_findLevels_67 a2 a3 a4 a5 v.1 v.2) n (a6, σ) = some ex) (Ke0 : ∀  (σ' : St), ex = σ' → ∀ (H : Heap) (locs : List Loc) (ls : Array Slot), lv_has ls 9 [(0, .ref (ad 0)), (2, .int a2), (3, .int a3), (4, .int a4), (5, .int a5)] → GW mSh mKs ad dc D A s σ' H locs → W p l e RmX6_findLevels s m args below meth c H locs 0 0 Q (F0 m 164 ls [])) (H : Heap) (locs : List Loc) (ls : Array Slot) (hl : lv_has ls 9 [(0, .ref (ad 0)), (2, .int a2), (3, .int a3), (4, .int a4), (5, .int a5), (6, .int a6)]) (G : GW mSh mKs ad dc D A s σ H locs), W p l e RmX6_findLevels s m args below meth c H locs 0 0 Q (F0 m 67 ls []) := by
  intro n
  induction n with
  | zero =>
    intro a6 σ ex h
    cases h
  | succ n ih =>
    intro a6 σ ex h Ke0 H locs ls hl G
    obtain ⟨r, hb1, hr⟩ := iter_e h
    refine wbX6_findLevels_67 C0 a2 a3 a4 a5 a6 σ  r hb1 ?_ ?_ H locs ls hl G
    · intro b6 σ' hv H locs ls hl G
      subst hv
      rcases hr with hr | ⟨a', hr, h2⟩
      · cases hr
      · rw [← Sum.inr.inj hr] at h2
        exact ih b6 σ' ex h2 Ke0 H locs ls hl G
    · intro σ' hv H locs ls hl G
      subst hv
      rcases hr with hr | ⟨a', hr, h2⟩
      · exact Ke0 σ' (Sum.inl.inj hr).symm H locs ls hl G
      · cases hr
set_option maxHeartbeats 400000 in
theorem wX6_findLevels_67 (C0 : Cx ad dc D RX6 cX6_findLevels 9 p s m args meth c) (a2 : Int32) (a3 : Int32) (a4 : Int32) (a5 : Int32) (a6 : Int32) (σ : St)  (o : ((Int32 × St) ⊕ (St)) ⊕ (Int32 × St)) (h : fX6_findLevels_67 a2 a3 a4 a5 a6 σ = some o) (Kb : ∀ (b5 : Int32) (σ' : St), o = .inr (b5, σ') → ∀ (H : Heap) (locs : List Loc) (ls : Array Slot), lv_has ls 9 [(0, .ref (ad 0)), (2, .int a2), (3, .int a3), (4, .int a4), (5, .int b5)] → GW mSh mKs ad dc D A s σ' H locs → W p l e RmX6_findLevels s m args below meth c H locs 0 0 Q (F0 m 34 ls [])) (Ke0 : ∀ (b5 : Int32) (σ' : St), o = .inl (.inl (b5, σ')) → ∀ (H : Heap) (locs : List Loc) (ls : Array Slot), lv_has ls 9 [(5, .int b5)] → GW mSh mKs ad dc D A s σ' H locs → W p l e RmX6_findLevels s m args below meth c H locs 0 0 Q (F0 m 61 ls [])) (Ke1 : ∀  (σ' : St), o = .inl (.inr (σ')) → ∀ (H : Heap) (locs : List Loc) (ls : Array Slot), lv_has ls 9 [(0, .ref (ad 0)), (3, .int a3), (4, .int a4)] → GW mSh mKs ad dc D A s σ' H locs → W p l e RmX6_findLevels s m args below meth c H locs 0 0 Q (F0 m 170 ls [])) (H : Heap) (locs : List Loc) (ls : Array Slot) (hl : lv_has ls 9 [(0, .ref (ad 0)), (2, .int a2), (3, .int a3), (4, .int a4), (5, .int a5), (6, .int a6)]) (G : GW mSh mKs ad dc D A s σ H locs) : W p l e RmX6_findLevels s m args below meth c H locs 0 0 Q (F0 m 67 ls []) := by
  have hx := C0.1
  have hb := C0.2.1
  unfold fX6_findLevels_67 at h
  obtain ⟨ex, h1, h⟩ := bn1_e h
  refine lX6_findLevels_67 C0 a2 a3 a4 a5   FU a6 σ ex h1 ?_ H locs ls hl G
  · intro σ' hv H locs ls hl G
    rw [hv] at h
    have h : (letB (a5 + 1) (fun x1 => some (.inr (x1, σ')))) = some o := h
    obtain ⟨x1, e_x1⟩ : ∃ z : Int32, z = a5 + 1 := ⟨_, rfl⟩
    have h := letB_e h e_x1
    refine lv_iinc (v := x1) (lv' := [(5, .int x1), (0, .ref (ad 0)), (2, .int a2), (3, .int a3), (4, .int a4)]) hx hb dX6_findLevels_164 hl (k := 4) rfl ((congrArg (fun z => a5 + z) (show Int32.ofInt 1 = 1 by decide)).trans e_x1.symm) (by decide) rfl (fun ls hl => ?_)
    refine lv_goto (tgt := 34) hx hb dX6_findLevels_167 (by decide) ?_
    cases h
    exact Kb x1 (σ') rfl _ _ _ (lv_sub hl [1, 2, 3, 4, 0] rfl) G
set_option maxHeartbeats 400000 in
theorem wX6_findLevels_170 (C0 : Cx ad dc D RX6 cX6_findLevels 9 p s m args meth c) (a3 : Int32) (a4 : Int32) (σ : St)  (o : Int32 × St) (h : fX6_findLevels_170 a3 a4 σ = some o) (Kr : KrI p l e RmX6_findLevels s m args below meth c cX6_findLevels Q (GW mSh mKs ad dc D A s (o.2)) o.1) (H : Heap) (locs : List Loc) (ls : Array Slot) (hl : lv_has ls 9 [(0, .ref (ad 0)), (3, .int a3), (4, .int a4)]) (G : GW mSh mKs ad dc D A s σ H locs) : W p l e RmX6_findLevels s m args below meth c H locs 0 0 Q (F0 m 170 ls []) := by
  have hx := C0.1
  have hb := C0.2.1
  unfold fX6_findLevels_170 at h
  refine lv_iload_n hx hb dX6_findLevels_170 rfl (lv_at hl 1 rfl) ?_
  refine lv_iconst (v := (-1)) hx hb dX6_findLevels_171 (by decide +kernel) ?_
  refine lv_icmp_eq (tgt := 195) hx hb dX6_findLevels_172 (by decide) (fun c1 => ?_) (fun c1 => ?_)
  · have h := ite_t h c1
    refine lv_iconst (v := (-1)) hx hb dX6_findLevels_195 (by decide +kernel) ?_
    cases h
    exact Kr _ _ _ _ dX6_findLevels_196 G
  · have h := ite_f h c1
    refine lv_aload_n hx hb dX6_findLevels_175 rfl (lv_at hl 0 rfl) ?_
    refine m_getC C0 G 51 (by decide) rfl q1565 dX6_findLevels_176 ?_
    refine lv_iload_n hx hb dX6_findLevels_179 rfl (lv_at hl 1 rfl) ?_
    obtain ⟨b_2, h⟩ := ckB_e h
    refine g_iald C0 G (n := 59049) (by decide) rfl b_2 dX6_findLevels_180 ?_
    refine lv_iload hx hb dX6_findLevels_181 (lv_at hl 2 rfl) ?_
    refine lv_ishr hx hb dX6_findLevels_183 ?_
    refine lv_iconst (v := 1) hx hb dX6_findLevels_184 (by decide +kernel) ?_
    refine lv_iand hx hb dX6_findLevels_185 ?_
    refine lv_iconst (v := 1) hx hb dX6_findLevels_186 (by decide +kernel) ?_
    refine lv_icmp_ne (tgt := 195) hx hb dX6_findLevels_187 (by decide) (fun c3 => ?_) (fun c3 => ?_)
    · have h := ite_f h c3
      refine lv_iconst (v := (-1)) hx hb dX6_findLevels_195 (by decide +kernel) ?_
      cases h
      exact Kr _ _ _ _ dX6_findLevels_196 G
    · have h := ite_t h c3
      refine lv_iload hx hb dX6_findLevels_190 (lv_at hl 2 rfl) ?_
      refine lv_goto (tgt := 196) hx hb dX6_findLevels_192 (by decide) ?_
      cases h
      exact Kr _ _ _ _ dX6_findLevels_196 G
set_option maxHeartbeats 400000 in
theorem wbX6_findLevels_34 (C0 : Cx ad dc D RX6 cX6_findLevels 9 p s m args meth c) (a2 : Int32) (a3 : Int32) (a4 : Int32) (a5 : Int32) (σ : St)  (o : ((Int32 × St) ⊕ (St)) ⊕ (Int32 × St)) (h : bX6_findLevels_34 a2 a3 a4 a5 σ = some o) (Kb : ∀ (b5 : Int32) (σ' : St), o = .inr (b5, σ') → ∀ (H : Heap) (locs : List Loc) (ls : Array Slot), lv_has ls 9 [(0, .ref (ad 0)), (2, .int a2), (3, .int a3), (4, .int a4), (5, .int b5)] → GW mSh mKs ad dc D A s σ' H locs → W p l e RmX6_findLevels s m args below meth c H locs 0 0 Q (F0 m 34 ls [])) (Ke0 : ∀ (b5 : Int32) (σ' : St), o = .inl (.inl (b5, σ')) → ∀ (H : Heap) (locs : List Loc) (ls : Array Slot), lv_has ls 9 [(5, .int b5)] → GW mSh mKs ad dc D A s σ' H locs → W p l e RmX6_findLevels s m args below meth c H locs 0 0 Q (F0 m 61 ls [])) (Ke1 : ∀  (σ' : St), o = .inl (.inr (σ')) → ∀ (H : Heap) (locs : List Loc) (ls : Array Slot), lv_has ls 9 [(0, .ref (ad 0)), (3, .int a3), (4, .int a4)] → GW mSh mKs ad dc D A s σ' H locs → W p l e RmX6_findLevels s m args below meth c H locs 0 0 Q (F0 m 170 ls [])) (H : Heap) (locs : List Loc) (ls : Array Slot) (hl : lv_has ls 9 [(0, .ref (ad 0)), (2, .int a2), (3, .int a3), (4, .int a4), (5, .int a5)]) (G : GW mSh mKs ad dc D A s σ H locs) : W p l e RmX6_findLevels s m args below meth c H locs 0 0 Q (F0 m 34 ls []) := by
  have hx := C0.1
  have hb := C0.2.1
  unfold bX6_findLevels_34 at h
  refine lv_iload hx hb dX6_findLevels_34 (lv_at hl 4 rfl) ?_
  refine lv_iload hx hb dX6_findLevels_36 (lv_at hl 3 rfl) ?_
  refine lv_icmp_ge (tgt := 170) hx hb dX6_findLevels_38 (by decide) (fun c1 => ?_) (fun c1 => ?_)
  · have h := ite_t h c1
    cases h
    exact Ke1 (σ) rfl _ _ _ (lv_sub hl [0, 2, 3] rfl) G
  · have h := ite_f h c1
    refine lv_iload_n hx hb dX6_findLevels_41 rfl (lv_at hl 2 rfl) ?_
    refine lv_iconst (v := (-1)) hx hb dX6_findLevels_42 (by decide +kernel) ?_
    refine lv_icmp_eq (tgt := 64) hx hb dX6_findLevels_43 (by decide) (fun c2 => ?_) (fun c2 => ?_)
    · have h := ite_t h c2
      refine lv_iconst (v := 0) hx hb dX6_findLevels_64 (by decide +kernel) ?_
      refine lv_istore (lv' := [(6, .int 0), (0, .ref (ad 0)), (2, .int a2), (3, .int a3), (4, .int a4), (5, .int a5)]) hx hb dX6_findLevels_65 hl (by decide) rfl (fun ls hl => ?_)
      exact wX6_findLevels_67 C0 a2 a3 a4 a5 0 (σ)  _ h Kb Ke0 Ke1 _ _ _ (lv_sub hl [1, 2, 3, 4, 5, 0] rfl) G
    · have h := ite_f h c2
      refine lv_aload_n hx hb dX6_findLevels_46 rfl (lv_at hl 0 rfl) ?_
      refine m_getC C0 G 51 (by decide) rfl q1565 dX6_findLevels_47 ?_
      refine lv_iload_n hx hb dX6_findLevels_50 rfl (lv_at hl 2 rfl) ?_
      obtain ⟨b_3, h⟩ := ckB_e h
      refine g_iald C0 G (n := 59049) (by decide) rfl b_3 dX6_findLevels_51 ?_
      refine lv_iload hx hb dX6_findLevels_52 (lv_at hl 4 rfl) ?_
      refine lv_ishr hx hb dX6_findLevels_54 ?_
      refine lv_iconst (v := 1) hx hb dX6_findLevels_55 (by decide +kernel) ?_
      refine lv_iand hx hb dX6_findLevels_56 ?_
      refine lv_iconst (v := 1) hx hb dX6_findLevels_57 (by decide +kernel) ?_
      refine lv_icmp_ne (tgt := 64) hx hb dX6_findLevels_58 (by decide) (fun c4 => ?_) (fun c4 => ?_)
      · have h := ite_f h c4
        refine lv_iconst (v := 0) hx hb dX6_findLevels_64 (by decide +kernel) ?_
        refine lv_istore (lv' := [(6, .int 0), (0, .ref (ad 0)), (2, .int a2), (3, .int a3), (4, .int a4), (5, .int a5)]) hx hb dX6_findLevels_65 hl (by decide) rfl (fun ls hl => ?_)
        exact wX6_findLevels_67 C0 a2 a3 a4 a5 0 (σ)  _ h Kb Ke0 Ke1 _ _ _ (lv_sub hl [1, 2, 3, 4, 5, 0] rfl) G
      · have h := ite_t h c4
        cases h
        exact Ke0 a5 (σ) rfl _ _ _ (lv_sub hl [4] rfl) G
set_option maxHeartbeats 400000 in
theorem lX6_findLevels_34 (C0 : Cx ad dc D RX6 cX6_findLevels 9 p s m args meth c) (a2 : Int32) (a3 : Int32) (a4 : Int32)   : ∀ (n : Nat) (a5 : Int32) (σ : St) (ex : (Int32 × St) ⊕ (St)) (h : iter (fun v : Int32 × St => bX6_findLevels_34 a2 a3 a4 v.1 v.2) n (a5, σ) = some ex) (Ke0 : ∀ (b5 : Int32) (σ' : St), ex = (.inl (b5, σ')) → ∀ (H : Heap) (locs : List Loc) (ls : Array Slot), lv_has ls 9 [(5, .int b5)] → GW mSh mKs ad dc D A s σ' H locs → W p l e RmX6_findLevels s m args below meth c H locs 0 0 Q (F0 m 61 ls [])) (Ke1 : ∀  (σ' : St), ex = (.inr (σ')) → ∀ (H : Heap) (locs : List Loc) (ls : Array Slot), lv_has ls 9 [(0, .ref (ad 0)), (3, .int a3), (4, .int a4)] → GW mSh mKs ad dc D A s σ' H locs → W p l e RmX6_findLevels s m args below meth c H locs 0 0 Q (F0 m 170 ls [])) (H : Heap) (locs : List Loc) (ls : Array Slot) (hl : lv_has ls 9 [(0, .ref (ad 0)), (2, .int a2), (3, .int a3), (4, .int a4), (5, .int a5)]) (G : GW mSh mKs ad dc D A s σ H locs), W p l e RmX6_findLevels s m args below meth c H locs 0 0 Q (F0 m 34 ls []) := by
  intro n
  induction n with
  | zero =>
    intro a5 σ ex h
    cases h
  | succ n ih =>
    intro a5 σ ex h Ke0 Ke1 H locs ls hl G
    obtain ⟨r, hb1, hr⟩ := iter_e h
    refine wbX6_findLevels_34 C0 a2 a3 a4 a5 σ  r hb1 ?_ ?_ ?_ H locs ls hl G
    · intro b5 σ' hv H locs ls hl G
      subst hv
      rcases hr with hr | ⟨a', hr, h2⟩
      · cases hr
      · rw [← Sum.inr.inj hr] at h2
        exact ih b5 σ' ex h2 Ke0 Ke1 H locs ls hl G
    · intro b5 σ' hv H locs ls hl G
      subst hv
      rcases hr with hr | ⟨a', hr, h2⟩
      · exact Ke0 b5 σ' (Sum.inl.inj hr).symm H locs ls hl G
      · cases hr
    · intro σ' hv H locs ls hl G
      subst hv
      rcases hr with hr | ⟨a', hr, h2⟩
      · exact Ke1 σ' (Sum.inl.inj hr).symm H locs ls hl G
      · cases hr
set_option maxHeartbeats 400000 in
theorem wX6_findLevels_34 (C0 : Cx ad dc D RX6 cX6_findLevels 9 p s m args meth c) (a2 : Int32) (a3 : Int32) (a4 : Int32) (a5 : Int32) (σ : St)  (o : Int32 × St) (h : fX6_findLevels_34 a2 a3 a4 a5 σ = some o) (Kr : KrI p l e RmX6_findLevels s m args below meth c cX6_findLevels Q (GW mSh mKs ad dc D A s (o.2)) o.1) (H : Heap) (locs : List Loc) (ls : Array Slot) (hl : lv_has ls 9 [(0, .ref (ad 0)), (2, .int a2), (3, .int a3), (4, .int a4), (5, .int a5)]) (G : GW mSh mKs ad dc D A s σ H locs) : W p l e RmX6_findLevels s m args below meth c H locs 0 0 Q (F0 m 34 ls []) := by
  have hx := C0.1
  have hb := C0.2.1
  unfold fX6_findLevels_34 at h
  obtain ⟨ex, h1, h⟩ := bn1_e h
  refine lX6_findLevels_34 C0 a2 a3 a4   FU a5 σ ex h1 ?_ ?_ H locs ls hl G
  · intro b5 σ' hv H locs ls hl G
    rw [hv] at h
    have h : (some (b5, σ')) = some o := h
    refine lv_iload hx hb dX6_findLevels_61 (lv_at hl 0 rfl) ?_
    cases h
    exact Kr _ _ _ _ dX6_findLevels_63 G
  · intro σ' hv H locs ls hl G
    rw [hv] at h
    have h : (fX6_findLevels_170 a3 a4 (σ')) = some o := h
    exact wX6_findLevels_170 C0 a3 a4 (σ')  _ h Kr _ _ _ hl G
set_option maxHeartbeats 400000 in
theorem wX6_findLevels_24 (C0 : Cx ad dc D RX6 cX6_findLevels 9 p s m args meth c) (a1 : Int32) (a2 : Int32) (a3 : Int32) (a4 : Int32) (σ : St)  (o : Int32 × St) (h : fX6_findLevels_24 a1 a2 a3 a4 σ = some o) (Kr : KrI p l e RmX6_findLevels s m args below meth c cX6_findLevels Q (GW mSh mKs ad dc D A s (o.2)) o.1) (H : Heap) (locs : List Loc) (ls : Array Slot) (hl : lv_has ls 9 [(0, .ref (ad 0)), (1, .int a1), (2, .int a2), (3, .int a3), (4, .int a4)]) (G : GW mSh mKs ad dc D A s σ H locs) : W p l e RmX6_findLevels s m args below meth c H locs 0 0 Q (F0 m 24 ls []) := by
  have hx := C0.1
  have hb := C0.2.1
  unfold fX6_findLevels_24 at h
  refine lv_aload_n hx hb dX6_findLevels_24 rfl (lv_at hl 0 rfl) ?_
  refine m_getC C0 G 51 (by decide) rfl q1565 dX6_findLevels_25 ?_
  refine lv_iload_n hx hb dX6_findLevels_28 rfl (lv_at hl 1 rfl) ?_
  refine lv_iconst (v := 1) hx hb dX6_findLevels_29 (by decide +kernel) ?_
  obtain ⟨b_1, h⟩ := ckB_e h
  refine g_iast C0 G (n := 59049) (by decide) rfl b_1 dX6_findLevels_30 (fun σ2 H locs e_σ2 G => ?_)
  have h := letB_e h e_σ2
  refine lv_iconst (v := 0) hx hb dX6_findLevels_31 (by decide +kernel) ?_
  refine lv_istore (lv' := [(5, .int 0), (0, .ref (ad 0)), (1, .int a1), (2, .int a2), (3, .int a3), (4, .int a4)]) hx hb dX6_findLevels_32 hl (by decide) rfl (fun ls hl => ?_)
  exact wX6_findLevels_34 C0 a2 a3 a4 0 (σ2)  _ h Kr _ _ _ (lv_sub hl [1, 3, 4, 5, 0] rfl) G
set_option maxHeartbeats 400000 in
theorem wbX6_findLevels_3 (C0 : Cx ad dc D RX6 cX6_findLevels 9 p s m args meth c) (a1 : Int32) (a2 : Int32) (a3 : Int32) (a4 : Int32) (a5 : Int32) (σ : St)  (o : (St) ⊕ (Int32 × St)) (h : bX6_findLevels_3 a1 a2 a3 a4 a5 σ = some o) (Kb : ∀ (b5 : Int32) (σ' : St), o = .inr (b5, σ') → ∀ (H : Heap) (locs : List Loc) (ls : Array Slot), lv_has ls 9 [(0, .ref (ad 0)), (1, .int a1), (2, .int a2), (3, .int a3), (4, .int a4), (5, .int b5)] → GW mSh mKs ad dc D A s σ' H locs → W p l e RmX6_findLevels s m args below meth c H locs 0 0 Q (F0 m 3 ls [])) (Ke0 : ∀  (σ' : St), o = .inl (σ') → ∀ (H : Heap) (locs : List Loc) (ls : Array Slot), lv_has ls 9 [(0, .ref (ad 0)), (1, .int a1), (2, .int a2), (3, .int a3), (4, .int a4)] → GW mSh mKs ad dc D A s σ' H locs → W p l e RmX6_findLevels s m args below meth c H locs 0 0 Q (F0 m 24 ls [])) (H : Heap) (locs : List Loc) (ls : Array Slot) (hl : lv_has ls 9 [(0, .ref (ad 0)), (1, .int a1), (2, .int a2), (3, .int a3), (4, .int a4), (5, .int a5)]) (G : GW mSh mKs ad dc D A s σ H locs) : W p l e RmX6_findLevels s m args below meth c H locs 0 0 Q (F0 m 3 ls []) := by
  have hx := C0.1
  have hb := C0.2.1
  unfold bX6_findLevels_3 at h
  refine lv_iload hx hb dX6_findLevels_3 (lv_at hl 5 rfl) ?_
  refine lv_ldc hx hb C0.2.2.2.1 (C0.2.2.2.2.1 _ q1513) dX6_findLevels_5 ?_
  refine lv_icmp_ge (tgt := 24) hx hb dX6_findLevels_7 (by decide) (fun c1 => ?_) (fun c1 => ?_)
  · have h := ite_t h c1
    cases h
    exact Ke0 (σ) rfl _ _ _ (lv_sub hl [0, 1, 2, 3, 4] rfl) G
  · have h := ite_f h c1
    refine lv_aload_n hx hb dX6_findLevels_10 rfl (lv_at hl 0 rfl) ?_
    refine m_getC C0 G 51 (by decide) rfl q1565 dX6_findLevels_11 ?_
    refine lv_iload hx hb dX6_findLevels_14 (lv_at hl 5 rfl) ?_
    refine lv_iconst (v := 0) hx hb dX6_findLevels_16 (by decide +kernel) ?_
    obtain ⟨b_2, h⟩ := ckB_e h
    refine g_iast C0 G (n := 59049) (by decide) rfl b_2 dX6_findLevels_17 (fun σ3 H locs e_σ3 G => ?_)
    have h := letB_e h e_σ3
    obtain ⟨x4, e_x4⟩ : ∃ z : Int32, z = a5 + 1 := ⟨_, rfl⟩
    have h := letB_e h e_x4
    refine lv_iinc (v := x4) (lv' := [(5, .int x4), (0, .ref (ad 0)), (1, .int a1), (2, .int a2), (3, .int a3), (4, .int a4)]) hx hb dX6_findLevels_18 hl (k := 5) rfl ((congrArg (fun z => a5 + z) (show Int32.ofInt 1 = 1 by decide)).trans e_x4.symm) (by decide) rfl (fun ls hl => ?_)
    refine lv_goto (tgt := 3) hx hb dX6_findLevels_21 (by decide) ?_
    cases h
    exact Kb x4 (σ3) rfl _ _ _ (lv_sub hl [1, 2, 3, 4, 5, 0] rfl) G
set_option maxHeartbeats 400000 in
theorem lX6_findLevels_3 (C0 : Cx ad dc D RX6 cX6_findLevels 9 p s m args meth c) (a1 : Int32) (a2 : Int32) (a3 : Int32) (a4 : Int32)   : ∀ (n : Nat) (a5 : Int32) (σ : St) (ex : St) (h : iter (fun v : Int32 × St => bX6_findLevels_3 a1 a2 a3 a4 v.1 v.2) n (a5, σ) = some ex) (Ke0 : ∀  (σ' : St), ex = σ' → ∀ (H : Heap) (locs : List Loc) (ls : Array Slot), lv_has ls 9 [(0, .ref (ad 0)), (1, .int a1), (2, .int a2), (3, .int a3), (4, .int a4)] → GW mSh mKs ad dc D A s σ' H locs → W p l e RmX6_findLevels s m args below meth c H locs 0 0 Q (F0 m 24 ls [])) (H : Heap) (locs : List Loc) (ls : Array Slot) (hl : lv_has ls 9 [(0, .ref (ad 0)), (1, .int a1), (2, .int a2), (3, .int a3), (4, .int a4), (5, .int a5)]) (G : GW mSh mKs ad dc D A s σ H locs), W p l e RmX6_findLevels s m args below meth c H locs 0 0 Q (F0 m 3 ls []) := by
  intro n
  induction n with
  | zero =>
    intro a5 σ ex h
    cases h
  | succ n ih =>
    intro a5 σ ex h Ke0 H locs ls hl G
    obtain ⟨r, hb1, hr⟩ := iter_e h
    refine wbX6_findLevels_3 C0 a1 a2 a3 a4 a5 σ  r hb1 ?_ ?_ H locs ls hl G
    · intro b5 σ' hv H locs ls hl G
      subst hv
      rcases hr with hr | ⟨a', hr, h2⟩
      · cases hr
      · rw [← Sum.inr.inj hr] at h2
        exact ih b5 σ' ex h2 Ke0 H locs ls hl G
    · intro σ' hv H locs ls hl G
      subst hv
      rcases hr with hr | ⟨a', hr, h2⟩
      · exact Ke0 σ' (Sum.inl.inj hr).symm H locs ls hl G
      · cases hr
set_option maxHeartbeats 400000 in
theorem wX6_findLevels_3 (C0 : Cx ad dc D RX6 cX6_findLevels 9 p s m args meth c) (a1 : Int32) (a2 : Int32) (a3 : Int32) (a4 : Int32) (a5 : Int32) (σ : St)  (o : Int32 × St) (h : fX6_findLevels_3 a1 a2 a3 a4 a5 σ = some o) (Kr : KrI p l e RmX6_findLevels s m args below meth c cX6_findLevels Q (GW mSh mKs ad dc D A s (o.2)) o.1) (H : Heap) (locs : List Loc) (ls : Array Slot) (hl : lv_has ls 9 [(0, .ref (ad 0)), (1, .int a1), (2, .int a2), (3, .int a3), (4, .int a4), (5, .int a5)]) (G : GW mSh mKs ad dc D A s σ H locs) : W p l e RmX6_findLevels s m args below meth c H locs 0 0 Q (F0 m 3 ls []) := by
  have hx := C0.1
  have hb := C0.2.1
  unfold fX6_findLevels_3 at h
  obtain ⟨ex, h1, h⟩ := bn1_e h
  refine lX6_findLevels_3 C0 a1 a2 a3 a4   FU a5 σ ex h1 ?_ H locs ls hl G
  · intro σ' hv H locs ls hl G
    rw [hv] at h
    have h : (fX6_findLevels_24 a1 a2 a3 a4 (σ')) = some o := h
    exact wX6_findLevels_24 C0 a1 a2 a3 a4 (σ')  _ h Kr _ _ _ hl G
set_option maxHeartbeats 400000 in
theorem wX6_findLevels_0 (C0 : Cx ad dc D RX6 cX6_findLevels 9 p s m args meth c) (a1 : Int32) (a2 : Int32) (a3 : Int32) (a4 : Int32) (σ : St)  (o : Int32 × St) (h : fX6_findLevels a1 a2 a3 a4 σ = some o) (Kr : KrI p l e RmX6_findLevels s m args below meth c cX6_findLevels Q (GW mSh mKs ad dc D A s (o.2)) o.1) (H : Heap) (locs : List Loc) (ls : Array Slot) (hl : lv_has ls 9 [(0, .ref (ad 0)), (1, .int a1), (2, .int a2), (3, .int a3), (4, .int a4)]) (G : GW mSh mKs ad dc D A s σ H locs) : W p l e RmX6_findLevels s m args below meth c H locs 0 0 Q (F0 m 0 ls []) := by
  have hx := C0.1
  have hb := C0.2.1
  unfold fX6_findLevels at h
  refine lv_iconst (v := 0) hx hb dX6_findLevels_0 (by decide +kernel) ?_
  refine lv_istore (lv' := [(5, .int 0), (0, .ref (ad 0)), (1, .int a1), (2, .int a2), (3, .int a3), (4, .int a4)]) hx hb dX6_findLevels_1 hl (by decide) rfl (fun ls hl => ?_)
  exact wX6_findLevels_3 C0 a1 a2 a3 a4 0 (σ)  _ h Kr _ _ _ (lv_sub hl [1, 2, 3, 4, 5, 0] rfl) G
theorem kX6_findLevels {l : Launch} {ad : Nat → Nat} {dc : Nat → ClassId} {D : va_G} {A : Nat → Prop}  (hi : ∀ i j, ad i = ad j → i = j) (hA : ∀ k, k ∈ mKs → A (ad k)) {σ : St} {a1 : Int32} {a2 : Int32} {a3 : Int32} {a4 : Int32} {r : Int32} {σ' : St}  (h : fX6_findLevels a1 a2 a3 a4 σ = some (r, σ')) : Met l yX6_findLevels (ws_ yX6_findLevels cX6_findLevels 9 (some .int)) RmX6_findLevels (gPc mSh mKs ad dc D σ [.ref (ad 0), .int a1, .int a2, .int a3, .int a4]) (gQi mSh mKs ad dc D A σ' r) 0 0 A :=
  g_metI (by decide) rfl hi mKs_nd hA (Nat.le_of_ble_eq_true rfl) (fun p e s m below meth c Q C0 Kr ls hl G => wX6_findLevels_0 C0 a1 a2 a3 a4 σ  (r, σ') h Kr _ _ ls hl G)
-- X6_reached
abbrev RmX6_reached : Room := { frames := 5, cells := 0, slots := 0, locals := 128 }
theorem hdX6_reached : yX6_reached.cls = RX6 ∧ yX6_reached.cls ≠ "java/lang/invoke/MethodHandle" ∧ yX6_reached.cls ≠ "java/lang/invoke/VarHandle" ∧ (parseMethodDescriptor yX6_reached.desc).map (fun d => d.parameters.length) = some 1 := by decide +kernel
set_option maxHeartbeats 400000 in
theorem wbX6_reached_69 (C0 : Cx ad dc D RX6 cX6_reached 4 p s m args meth c) (a1 : Int32) (a2 : Int32) (a3 : Int32) (σ : St)  (o : (Int32) ⊕ (Int32 × Int32)) (h : bX6_reached_69 a1 a2 a3 σ = some o) (Kb : ∀ (b2 : Int32) (b3 : Int32), o = .inr (b2, b3) → ∀ (H : Heap) (locs : List Loc) (ls : Array Slot), lv_has ls 4 [(0, .ref (ad 0)), (1, .int a1), (2, .int b2), (3, .int b3)] → GW mSh mKs ad dc D A s σ H locs → W p l e RmX6_reached s m args below meth c H locs 0 0 Q (F0 m 69 ls [])) (Ke0 : ∀ (b2 : Int32), o = .inl b2 → ∀ (H : Heap) (locs : List Loc) (ls : Array Slot), lv_has ls 4 [(2, .int b2)] → GW mSh mKs ad dc D A s σ H locs → W p l e RmX6_reached s m args below meth c H locs 0 0 Q (F0 m 94 ls [])) (H : Heap) (locs : List Loc) (ls : Array Slot) (hl : lv_has ls 4 [(0, .ref (ad 0)), (1, .int a1), (2, .int a2), (3, .int a3)]) (G : GW mSh mKs ad dc D A s σ H locs) : W p l e RmX6_reached s m args below meth c H locs 0 0 Q (F0 m 69 ls []) := by
  have hx := C0.1
  have hb := C0.2.1
  unfold bX6_reached_69 at h
  refine lv_iload_n hx hb dX6_reached_69 rfl (lv_at hl 3 rfl) ?_
  refine lv_ldc hx hb C0.2.2.2.1 (C0.2.2.2.2.1 _ q1513) dX6_reached_70 ?_
  refine lv_icmp_ge (tgt := 94) hx hb dX6_reached_72 (by decide) (fun c1 => ?_) (fun c1 => ?_)
  · have h := ite_t h c1
    cases h
    exact Ke0 a2 rfl _ _ _ (lv_sub hl [2] rfl) G
  · have h := ite_f h c1
    refine lv_iload_n hx hb dX6_reached_75 rfl (lv_at hl 2 rfl) ?_
    refine lv_aload_n hx hb dX6_reached_76 rfl (lv_at hl 0 rfl) ?_
    refine m_getC C0 G 51 (by decide) rfl q1565 dX6_reached_77 ?_
    refine lv_iload_n hx hb dX6_reached_80 rfl (lv_at hl 3 rfl) ?_
    obtain ⟨b_2, h⟩ := ckB_e h
    refine g_iald C0 G (n := 59049) (by decide) rfl b_2 dX6_reached_81 ?_
    refine lv_iload_n hx hb dX6_reached_82 rfl (lv_at hl 1 rfl) ?_
    refine lv_ishr hx hb dX6_reached_83 ?_
    refine lv_iconst (v := 1) hx hb dX6_reached_84 (by decide +kernel) ?_
    refine lv_iand hx hb dX6_reached_85 ?_
    refine lv_iadd hx hb dX6_reached_86 ?_
    refine lv_topi (fun x3 e_x3 => ?_)
    have h := letB_e h e_x3
    refine lv_istore_n (lv' := [(2, .int x3), (0, .ref (ad 0)), (1, .int a1), (3, .int a3)]) hx hb dX6_reached_87 rfl hl (by decide) rfl (fun ls hl => ?_)
    obtain ⟨x4, e_x4⟩ : ∃ z : Int32, z = a3 + 1 := ⟨_, rfl⟩
    have h := letB_e h e_x4
    refine lv_iinc (v := x4) (lv' := [(3, .int x4), (2, .int x3), (0, .ref (ad 0)), (1, .int a1)]) hx hb dX6_reached_88 hl (k := 3) rfl ((congrArg (fun z => a3 + z) (show Int32.ofInt 1 = 1 by decide)).trans e_x4.symm) (by decide) rfl (fun ls hl => ?_)
    refine lv_goto (tgt := 69) hx hb dX6_reached_91 (by decide) ?_
    cases h
    exact Kb x3 x4 rfl _ _ _ (lv_sub hl [2, 3, 1, 0] rfl) G
set_option maxHeartbeats 400000 in
theorem lX6_reached_69 (C0 : Cx ad dc D RX6 cX6_reached 4 p s m args meth c) (a1 : Int32) (σ : St)  : ∀ (n : Nat) (a2 : Int32) (a3 : Int32) (ex : Int32) (h : iter (fun v : Int32 × Int32 => bX6_reached_69 a1 v.1 v.2 σ) n (a2, a3) = some ex) (Ke0 : ∀ (b2 : Int32), ex = b2 → ∀ (H : Heap) (locs : List Loc) (ls : Array Slot), lv_has ls 4 [(2, .int b2)] → GW mSh mKs ad dc D A s σ H locs → W p l e RmX6_reached s m args below meth c H locs 0 0 Q (F0 m 94 ls [])) (H : Heap) (locs : List Loc) (ls : Array Slot) (hl : lv_has ls 4 [(0, .ref (ad 0)), (1, .int a1), (2, .int a2), (3, .int a3)]) (G : GW mSh mKs ad dc D A s σ H locs), W p l e RmX6_reached s m args below meth c H locs 0 0 Q (F0 m 69 ls []) := by
  intro n
  induction n with
  | zero =>
    intro a2 a3 ex h
    cases h
  | succ n ih =>
    intro a2 a3 ex h Ke0 H locs ls hl G
    obtain ⟨r, hb1, hr⟩ := iter_e h
    refine wbX6_reached_69 C0 a1 a2 a3 σ  r hb1 ?_ ?_ H locs ls hl G
    · intro b2 b3 hv H locs ls hl G
      subst hv
      rcases hr with hr | ⟨a', hr, h2⟩
      · cases hr
      · rw [← Sum.inr.inj hr] at h2
        exact ih b2 b3 ex h2 Ke0 H locs ls hl G
    · intro b2 hv H locs ls hl G
      subst hv
      rcases hr with hr | ⟨a', hr, h2⟩
      · exact Ke0 b2 (Sum.inl.inj hr).symm H locs ls hl G
      · cases hr
set_option maxHeartbeats 400000 in
theorem wX6_reached_69 (C0 : Cx ad dc D RX6 cX6_reached 4 p s m args meth c) (a1 : Int32) (a2 : Int32) (a3 : Int32) (σ : St)  (o : Int32 × St) (h : fX6_reached_69 a1 a2 a3 σ = some o) (Kr : KrI p l e RmX6_reached s m args below meth c cX6_reached Q (GW mSh mKs ad dc D A s (o.2)) o.1) (H : Heap) (locs : List Loc) (ls : Array Slot) (hl : lv_has ls 4 [(0, .ref (ad 0)), (1, .int a1), (2, .int a2), (3, .int a3)]) (G : GW mSh mKs ad dc D A s σ H locs) : W p l e RmX6_reached s m args below meth c H locs 0 0 Q (F0 m 69 ls []) := by
  have hx := C0.1
  have hb := C0.2.1
  unfold fX6_reached_69 at h
  obtain ⟨ex, h1, h⟩ := bn1_e h
  refine lX6_reached_69 C0 a1 σ  FU a2 a3 ex h1 ?_ H locs ls hl G
  · intro b2 hv H locs ls hl G
    rw [hv] at h
    have h : (some (b2, σ)) = some o := h
    refine lv_iload_n hx hb dX6_reached_94 rfl (lv_at hl 0 rfl) ?_
    cases h
    exact Kr _ _ _ _ dX6_reached_95 G
set_option maxHeartbeats 400000 in
theorem wX6_reached_62 (C0 : Cx ad dc D RX6 cX6_reached 4 p s m args meth c) (a1 : Int32) (t1 : Int32) (σ : St)  (o : Int32 × St) (h : fX6_reached_62 a1 t1 σ = some o) (Kr : KrI p l e RmX6_reached s m args below meth c cX6_reached Q (GW mSh mKs ad dc D A s (o.2)) o.1) (H : Heap) (locs : List Loc) (ls : Array Slot) (hl : lv_has ls 4 [(0, .ref (ad 0)), (1, .int a1)]) (G : GW mSh mKs ad dc D A s σ H locs) : W p l e RmX6_reached s m args below meth c H locs 0 0 Q (F0 m 62 ls [.int t1, .ref (ad 0)]) := by
  have hx := C0.1
  have hb := C0.2.1
  unfold fX6_reached_62 at h
  refine m_putI C0 G 59 (by decide) rfl q1573 rfl dX6_reached_62 ⟨rfl, rfl⟩ (fun σ1 H locs e_σ1 G => ?_)
  have h := letB_e h e_σ1
  refine lv_iconst (v := 0) hx hb dX6_reached_65 (by decide +kernel) ?_
  refine lv_istore_n (lv' := [(2, .int 0), (0, .ref (ad 0)), (1, .int a1)]) hx hb dX6_reached_66 rfl hl (by decide) rfl (fun ls hl => ?_)
  refine lv_iconst (v := 0) hx hb dX6_reached_67 (by decide +kernel) ?_
  refine lv_istore_n (lv' := [(3, .int 0), (2, .int 0), (0, .ref (ad 0)), (1, .int a1)]) hx hb dX6_reached_68 rfl hl (by decide) rfl (fun ls hl => ?_)
  exact wX6_reached_69 C0 a1 0 0 (σ1)  _ h Kr _ _ _ (lv_sub hl [2, 3, 1, 0] rfl) G
set_option maxHeartbeats 400000 in
theorem wX6_reached_0 (C0 : Cx ad dc D RX6 cX6_reached 4 p s m args meth c) (a1 : Int32) (σ : St)  (o : Int32 × St) (h : fX6_reached a1 σ = some o) (Kr : KrI p l e RmX6_reached s m args below meth c cX6_reached Q (GW mSh mKs ad dc D A s (o.2)) o.1) (H : Heap) (locs : List Loc) (ls : Array Slot) (hl : lv_has ls 4 [(0, .ref (ad 0)), (1, .int a1)]) (G : GW mSh mKs ad dc D A s σ H locs) : W p l e RmX6_reached s m args below meth c H locs 0 0 Q (F0 m 0 ls []) := by
  have hx := C0.1
  have hb := C0.2.1
  unfold fX6_reached at h
  refine lv_aload_n hx hb dX6_reached_0 rfl (lv_at hl 0 rfl) ?_
  refine lv_iconst (v := 0) hx hb dX6_reached_1 (by decide +kernel) ?_
  refine m_putI C0 G 0 (by decide) rfl q1514 rfl dX6_reached_2 ⟨rfl, rfl⟩ (fun σ1 H locs e_σ1 G => ?_)
  have h := letB_e h e_σ1
  refine lv_iload_n hx hb dX6_reached_5 rfl (lv_at hl 1 rfl) ?_
  refine lv_i2l hx hb dX6_reached_6 rfl ?_
  refine lv_lconst (v := 0) hx hb dX6_reached_7 (by decide) ?_
  refine lv_ldc2 hx hb C0.2.2.2.1 (C0.2.2.2.2.1 _ q2026) dX6_reached_8 ?_
  obtain ⟨r2, h_r2, h⟩ := bn1_e h
  refine g_callSi (rest := []) C0 G hl (kX6_in (l := l) C0.2.2.2.2.2.2.1 G.2.2.2 h_r2) (va_cwS 3 C0.2.2.2.2.1 (lw_S q1721 q1722 q114 q1723) rfl rfl rfl hdX6_in ⟨Nat.le_of_ble_eq_true rfl, Nat.le_of_ble_eq_true rfl⟩) rfl (Nat.le_of_ble_eq_true rfl) dX6_reached_11 ⟨Nat.zero_le _, Nat.zero_le _⟩ (fun H locs G => ?_)
  refine lv_if_ne (tgt := 19) hx hb dX6_reached_14 (by decide) (fun c3 => ?_) (fun c3 => ?_)
  · have h := ite_f h c3
    refine lv_aload_n hx hb dX6_reached_19 rfl (lv_at hl 0 rfl) ?_
    refine m_getI C0 G 59 (by decide) rfl q1573 dX6_reached_20 ?_
    refine lv_iload_n hx hb dX6_reached_23 rfl (lv_at hl 1 rfl) ?_
    refine lv_icmp_ge (tgt := 65) hx hb dX6_reached_24 (by decide) (fun c4 => ?_) (fun c4 => ?_)
    · have h := ite_t h c4
      refine lv_iconst (v := 0) hx hb dX6_reached_65 (by decide +kernel) ?_
      refine lv_istore_n (lv' := [(2, .int 0), (0, .ref (ad 0)), (1, .int a1)]) hx hb dX6_reached_66 rfl hl (by decide) rfl (fun ls hl => ?_)
      refine lv_iconst (v := 0) hx hb dX6_reached_67 (by decide +kernel) ?_
      refine lv_istore_n (lv' := [(3, .int 0), (2, .int 0), (0, .ref (ad 0)), (1, .int a1)]) hx hb dX6_reached_68 rfl hl (by decide) rfl (fun ls hl => ?_)
      exact wX6_reached_69 C0 a1 0 0 (σ1)  _ h Kr _ _ _ (lv_sub hl [2, 3, 1, 0] rfl) G
    · have h := ite_f h c4
      refine lv_aload_n hx hb dX6_reached_27 rfl (lv_at hl 0 rfl) ?_
      obtain ⟨σ6, h_r5, h⟩ := bn1_e h
      refine g_callVv (rest := []) C0 G hl (ci := 6) rfl (by decide) rfl (kX6_findWeights (l := l) C0.2.2.2.2.2.2.1 G.2.2.2 h_r5) (cwV 0 C0.2.2.2.2.1 (lw_V q2027 q2029 qs90 q114 q2030) rfl rfl rfl hdX6_findWeights ⟨Nat.le_of_ble_eq_true rfl, Nat.le_of_ble_eq_true rfl⟩) rfl (Nat.le_of_ble_eq_true rfl) dX6_reached_28 ⟨Nat.zero_le _, Nat.zero_le _⟩ (fun H locs G => ?_)
      refine lv_aload_n hx hb dX6_reached_31 rfl (lv_at hl 0 rfl) ?_
      refine lv_aload_n hx hb dX6_reached_32 rfl (lv_at hl 0 rfl) ?_
      refine lv_bipush (v := 20) hx hb dX6_reached_33 (by decide +kernel) ?_
      obtain ⟨r7, h_r7, h⟩ := bn1_e h
      refine g_callVi (rest := [.ref (ad 0)]) C0 G hl (ci := 6) rfl (by decide) rfl (kX6_rowAt (l := l) C0.2.2.2.2.2.2.1 G.2.2.2 h_r7) (cwV 1 C0.2.2.2.2.1 (lw_V q2031 q2033 qs91 q114 q2034) rfl rfl rfl hdX6_rowAt ⟨Nat.le_of_ble_eq_true rfl, Nat.le_of_ble_eq_true rfl⟩) rfl (Nat.le_of_ble_eq_true rfl) dX6_reached_35 ⟨Nat.zero_le _, Nat.zero_le _⟩ (fun H locs G => ?_)
      refine lv_aload_n hx hb dX6_reached_38 rfl (lv_at hl 0 rfl) ?_
      refine m_getC C0 G 3 (by decide) rfl q1517 dX6_reached_39 ?_
      refine lv_bipush (v := 10) hx hb dX6_reached_42 (by decide +kernel) ?_
      obtain ⟨b_8, h⟩ := ckB_e h
      refine g_iald C0 G (n := 8060) (by decide) rfl b_8 dX6_reached_44 ?_
      refine lv_iconst (v := (-1)) hx hb dX6_reached_45 (by decide +kernel) ?_
      refine lv_iload_n hx hb dX6_reached_46 rfl (lv_at hl 1 rfl) ?_
      obtain ⟨r9, σ10, h_r9, h⟩ := bn2_e h
      refine g_callVi (rest := []) C0 G hl (ci := 6) rfl (by decide) rfl (kX6_findLevels (l := l) C0.2.2.2.2.2.2.1 G.2.2.2 h_r9) (cwV 4 C0.2.2.2.2.1 (lw_V q2035 q2037 qs92 q114 q2038) rfl rfl rfl hdX6_findLevels ⟨Nat.le_of_ble_eq_true rfl, Nat.le_of_ble_eq_true rfl⟩) rfl (Nat.le_of_ble_eq_true rfl) dX6_reached_47 ⟨Nat.zero_le _, Nat.zero_le _⟩ (fun H locs G => ?_)
      refine lv_istore_n (lv' := [(2, .int r9), (0, .ref (ad 0)), (1, .int a1)]) hx hb dX6_reached_50 rfl hl (by decide) rfl (fun ls hl => ?_)
      refine lv_aload_n hx hb dX6_reached_51 rfl (lv_at hl 1 rfl) ?_
      refine lv_iload_n hx hb dX6_reached_52 rfl (lv_at hl 0 rfl) ?_
      refine lv_iconst (v := (-1)) hx hb dX6_reached_53 (by decide +kernel) ?_
      refine lv_icmp_ne (tgt := 61) hx hb dX6_reached_54 (by decide) (fun c11 => ?_) (fun c11 => ?_)
      · have h := ite_f h c11
        refine lv_iconst (v := (-1)) hx hb dX6_reached_61 (by decide +kernel) ?_
        exact wX6_reached_62 C0 a1 (-1) (σ10)  _ h Kr _ _ _ (lv_sub hl [1, 2] rfl) G
      · have h := ite_t h c11
        refine lv_iload_n hx hb dX6_reached_57 rfl (lv_at hl 2 rfl) ?_
        refine lv_goto (tgt := 62) hx hb dX6_reached_58 (by decide) ?_
        exact wX6_reached_62 C0 a1 a1 (σ10)  _ h Kr _ _ _ (lv_sub hl [1, 2] rfl) G
  · have h := ite_t h c3
    refine lv_iconst (v := (-1)) hx hb dX6_reached_17 (by decide +kernel) ?_
    cases h
    exact Kr _ _ _ _ dX6_reached_18 G
theorem kX6_reached {l : Launch} {ad : Nat → Nat} {dc : Nat → ClassId} {D : va_G} {A : Nat → Prop}  (hi : ∀ i j, ad i = ad j → i = j) (hA : ∀ k, k ∈ mKs → A (ad k)) {σ : St} {a1 : Int32} {r : Int32} {σ' : St}  (h : fX6_reached a1 σ = some (r, σ')) : Met l yX6_reached (ws_ yX6_reached cX6_reached 4 (some .int)) RmX6_reached (gPc mSh mKs ad dc D σ [.ref (ad 0), .int a1]) (gQi mSh mKs ad dc D A σ' r) 0 0 A :=
  g_metI (by decide) rfl hi mKs_nd hA (Nat.le_of_ble_eq_true rfl) (fun p e s m below meth c Q C0 Kr ls hl G => wX6_reached_0 C0 a1 σ  (r, σ') h Kr _ _ ls hl G)
-- X6_leads_c20
abbrev RmX6_leads_c20 : Room := { frames := 4, cells := 0, slots := 0, locals := 100 }
theorem hdX6_leads_c20 : yX6_leads.cls = RX6 ∧ yX6_leads.cls ≠ "java/lang/invoke/MethodHandle" ∧ yX6_leads.cls ≠ "java/lang/invoke/VarHandle" ∧ (parseMethodDescriptor yX6_leads.desc).map (fun d => d.parameters.length) = some 4 := by decide +kernel
set_option maxHeartbeats 400000 in
theorem wX6_leads_c20_51 (C0 : Cx ad dc D RX6 cX6_leads 7 p s m args meth c) (a4 : Int32) (a6 : Int32) (σ : St)  (o : (Int32) ⊕ (Int32 × Int32)) (h : fX6_leads_c20_51 a4 a6 σ = some o) (Kb : ∀ (b5 : Int32) (b6 : Int32), o = .inr (b5, b6) → ∀ (H : Heap) (locs : List Loc) (ls : Array Slot), lv_has ls 7 [(0, .ref (ad 0)), (3, .ref (ad 20)), (4, .int a4), (5, .int b5), (6, .int b6)] → GW mSh mKs ad dc D A s σ H locs → W p l e RmX6_leads_c20 s m args below meth c H locs 0 0 Q (F0 m 19 ls [])) (Ke0 : ∀ (b5 : Int32), o = .inl b5 → ∀ (H : Heap) (locs : List Loc) (ls : Array Slot), lv_has ls 7 [(5, .int b5)] → GW mSh mKs ad dc D A s σ H locs → W p l e RmX6_leads_c20 s m args below meth c H locs 0 0 Q (F0 m 64 ls [])) (H : Heap) (locs : List Loc) (ls : Array Slot) (hl : lv_has ls 7 [(0, .ref (ad 0)), (3, .ref (ad 20)), (4, .int a4), (6, .int a6)]) (G : GW mSh mKs ad dc D A s σ H locs) : W p l e RmX6_leads_c20 s m args below meth c H locs 0 0 Q (F0 m 51 ls []) := by
  have hx := C0.1
  have hb := C0.2.1
  unfold fX6_leads_c20_51 at h
  refine lv_iconst (v := 1) hx hb dX6_leads_51 (by decide +kernel) ?_
  refine lv_goto (tgt := 56) hx hb dX6_leads_52 (by decide) ?_
  refine lv_istore (lv' := [(5, .int 1), (0, .ref (ad 0)), (3, .ref (ad 20)), (4, .int a4), (6, .int a6)]) hx hb dX6_leads_56 hl (by decide) rfl (fun ls hl => ?_)
  obtain ⟨x1, e_x1⟩ : ∃ z : Int32, z = a6 + 1 := ⟨_, rfl⟩
  have h := letB_e h e_x1
  refine lv_iinc (v := x1) (lv' := [(6, .int x1), (5, .int 1), (0, .ref (ad 0)), (3, .ref (ad 20)), (4, .int a4)]) hx hb dX6_leads_58 hl (k := 4) rfl ((congrArg (fun z => a6 + z) (show Int32.ofInt 1 = 1 by decide)).trans e_x1.symm) (by decide) rfl (fun ls hl => ?_)
  refine lv_goto (tgt := 19) hx hb dX6_leads_61 (by decide) ?_
  cases h
  exact Kb 1 x1 rfl _ _ _ (lv_sub hl [2, 3, 4, 1, 0] rfl) G
set_option maxHeartbeats 400000 in
theorem wbX6_leads_c20_19 (C0 : Cx ad dc D RX6 cX6_leads 7 p s m args meth c) (a4 : Int32) (a5 : Int32) (a6 : Int32) (σ : St)  (o : (Int32) ⊕ (Int32 × Int32)) (h : bX6_leads_c20_19 a4 a5 a6 σ = some o) (Kb : ∀ (b5 : Int32) (b6 : Int32), o = .inr (b5, b6) → ∀ (H : Heap) (locs : List Loc) (ls : Array Slot), lv_has ls 7 [(0, .ref (ad 0)), (3, .ref (ad 20)), (4, .int a4), (5, .int b5), (6, .int b6)] → GW mSh mKs ad dc D A s σ H locs → W p l e RmX6_leads_c20 s m args below meth c H locs 0 0 Q (F0 m 19 ls [])) (Ke0 : ∀ (b5 : Int32), o = .inl b5 → ∀ (H : Heap) (locs : List Loc) (ls : Array Slot), lv_has ls 7 [(5, .int b5)] → GW mSh mKs ad dc D A s σ H locs → W p l e RmX6_leads_c20 s m args below meth c H locs 0 0 Q (F0 m 64 ls [])) (H : Heap) (locs : List Loc) (ls : Array Slot) (hl : lv_has ls 7 [(0, .ref (ad 0)), (3, .ref (ad 20)), (4, .int a4), (5, .int a5), (6, .int a6)]) (G : GW mSh mKs ad dc D A s σ H locs) : W p l e RmX6_leads_c20 s m args below meth c H locs 0 0 Q (F0 m 19 ls []) := by
  have hx := C0.1
  have hb := C0.2.1
  unfold bX6_leads_c20_19 at h
  refine lv_iload hx hb dX6_leads_19 (lv_at hl 4 rfl) ?_
  refine lv_aload_n hx hb dX6_leads_21 rfl (lv_at hl 0 rfl) ?_
  refine m_getI C0 G 58 (by decide) rfl q1572 dX6_leads_22 ?_
  refine lv_icmp_ge (tgt := 64) hx hb dX6_leads_25 (by decide) (fun c1 => ?_) (fun c1 => ?_)
  · have h := ite_t h c1
    cases h
    exact Ke0 a5 rfl _ _ _ (lv_sub hl [3] rfl) G
  · have h := ite_f h c1
    refine lv_iload hx hb dX6_leads_28 (lv_at hl 3 rfl) ?_
    refine lv_if_ne (tgt := 51) hx hb dX6_leads_30 (by decide) (fun c2 => ?_) (fun c2 => ?_)
    · have h := ite_f h c2
      exact wX6_leads_c20_51 C0 a4 a6 (σ)  _ h Kb Ke0 _ _ _ (lv_sub hl [0, 1, 2, 4] rfl) G
    · have h := ite_t h c2
      refine lv_aload_n hx hb dX6_leads_33 rfl (lv_at hl 1 rfl) ?_
      refine lv_aload_n hx hb dX6_leads_34 rfl (lv_at hl 0 rfl) ?_
      refine m_getC C0 G 57 (by decide) rfl q1571 dX6_leads_35 ?_
      refine lv_iload hx hb dX6_leads_38 (lv_at hl 4 rfl) ?_
      obtain ⟨b_3, h⟩ := ckB_e h
      refine g_iald C0 G (n := 59049) (by decide) rfl b_3 dX6_leads_40 ?_
      obtain ⟨b_4, h⟩ := ckB_e h
      refine g_iald C0 G (n := 59049) (by decide) rfl b_4 dX6_leads_41 ?_
      refine lv_iload hx hb dX6_leads_42 (lv_at hl 2 rfl) ?_
      refine lv_ishr hx hb dX6_leads_44 ?_
      refine lv_iconst (v := 1) hx hb dX6_leads_45 (by decide +kernel) ?_
      refine lv_iand hx hb dX6_leads_46 ?_
      refine lv_iconst (v := 1) hx hb dX6_leads_47 (by decide +kernel) ?_
      refine lv_icmp_ne (tgt := 55) hx hb dX6_leads_48 (by decide) (fun c5 => ?_) (fun c5 => ?_)
      · have h := ite_f h c5
        refine lv_iconst (v := 0) hx hb dX6_leads_55 (by decide +kernel) ?_
        refine lv_istore (lv' := [(5, .int 0), (0, .ref (ad 0)), (3, .ref (ad 20)), (4, .int a4), (6, .int a6)]) hx hb dX6_leads_56 hl (by decide) rfl (fun ls hl => ?_)
        obtain ⟨x6, e_x6⟩ : ∃ z : Int32, z = a6 + 1 := ⟨_, rfl⟩
        have h := letB_e h e_x6
        refine lv_iinc (v := x6) (lv' := [(6, .int x6), (5, .int 0), (0, .ref (ad 0)), (3, .ref (ad 20)), (4, .int a4)]) hx hb dX6_leads_58 hl (k := 4) rfl ((congrArg (fun z => a6 + z) (show Int32.ofInt 1 = 1 by decide)).trans e_x6.symm) (by decide) rfl (fun ls hl => ?_)
        refine lv_goto (tgt := 19) hx hb dX6_leads_61 (by decide) ?_
        cases h
        exact Kb 0 x6 rfl _ _ _ (lv_sub hl [2, 3, 4, 1, 0] rfl) G
      · have h := ite_t h c5
        exact wX6_leads_c20_51 C0 a4 a6 (σ)  _ h Kb Ke0 _ _ _ (lv_sub hl [0, 1, 2, 4] rfl) G
set_option maxHeartbeats 400000 in
theorem lX6_leads_c20_19 (C0 : Cx ad dc D RX6 cX6_leads 7 p s m args meth c) (a4 : Int32) (σ : St)  : ∀ (n : Nat) (a5 : Int32) (a6 : Int32) (ex : Int32) (h : iter (fun v : Int32 × Int32 => bX6_leads_c20_19 a4 v.1 v.2 σ) n (a5, a6) = some ex) (Ke0 : ∀ (b5 : Int32), ex = b5 → ∀ (H : Heap) (locs : List Loc) (ls : Array Slot), lv_has ls 7 [(5, .int b5)] → GW mSh mKs ad dc D A s σ H locs → W p l e RmX6_leads_c20 s m args below meth c H locs 0 0 Q (F0 m 64 ls [])) (H : Heap) (locs : List Loc) (ls : Array Slot) (hl : lv_has ls 7 [(0, .ref (ad 0)), (3, .ref (ad 20)), (4, .int a4), (5, .int a5), (6, .int a6)]) (G : GW mSh mKs ad dc D A s σ H locs), W p l e RmX6_leads_c20 s m args below meth c H locs 0 0 Q (F0 m 19 ls []) := by
  intro n
  induction n with
  | zero =>
    intro a5 a6 ex h
    cases h
  | succ n ih =>
    intro a5 a6 ex h Ke0 H locs ls hl G
    obtain ⟨r, hb1, hr⟩ := iter_e h
    refine wbX6_leads_c20_19 C0 a4 a5 a6 σ  r hb1 ?_ ?_ H locs ls hl G
    · intro b5 b6 hv H locs ls hl G
      subst hv
      rcases hr with hr | ⟨a', hr, h2⟩
      · cases hr
      · rw [← Sum.inr.inj hr] at h2
        exact ih b5 b6 ex h2 Ke0 H locs ls hl G
    · intro b5 hv H locs ls hl G
      subst hv
      rcases hr with hr | ⟨a', hr, h2⟩
      · exact Ke0 b5 (Sum.inl.inj hr).symm H locs ls hl G
      · cases hr
set_option maxHeartbeats 400000 in
theorem wX6_leads_c20_19 (C0 : Cx ad dc D RX6 cX6_leads 7 p s m args meth c) (a4 : Int32) (a5 : Int32) (a6 : Int32) (σ : St)  (o : Int32 × St) (h : fX6_leads_c20_19 a4 a5 a6 σ = some o) (Kr : KrZ p l e RmX6_leads_c20 s m args below meth c cX6_leads Q (GW mSh mKs ad dc D A s (o.2)) o.1) (H : Heap) (locs : List Loc) (ls : Array Slot) (hl : lv_has ls 7 [(0, .ref (ad 0)), (3, .ref (ad 20)), (4, .int a4), (5, .int a5), (6, .int a6)]) (G : GW mSh mKs ad dc D A s σ H locs) : W p l e RmX6_leads_c20 s m args below meth c H locs 0 0 Q (F0 m 19 ls []) := by
  have hx := C0.1
  have hb := C0.2.1
  unfold fX6_leads_c20_19 at h
  obtain ⟨ex, h1, h⟩ := bn1_e h
  refine lX6_leads_c20_19 C0 a4 σ  FU a5 a6 ex h1 ?_ H locs ls hl G
  · intro b5 hv H locs ls hl G
    rw [hv] at h
    have h : (ckZ b5 (some (b5, σ))) = some o := h
    refine lv_iload hx hb dX6_leads_64 (lv_at hl 0 rfl) ?_
    obtain ⟨hz, h⟩ := ckZ_e h
    cases h
    exact Kr _ _ _ _ dX6_leads_66 hz.1 G
set_option maxHeartbeats 400000 in
theorem wX6_leads_c20_0 (C0 : Cx ad dc D RX6 cX6_leads 7 p s m args meth c) (a1 : Int32) (a2 : Int32) (a4 : Int32) (σ : St)  (o : Int32 × St) (h : fX6_leads_c20 a1 a2 a4 σ = some o) (Kr : KrZ p l e RmX6_leads_c20 s m args below meth c cX6_leads Q (GW mSh mKs ad dc D A s (o.2)) o.1) (H : Heap) (locs : List Loc) (ls : Array Slot) (hl : lv_has ls 7 [(0, .ref (ad 0)), (1, .int a1), (2, .int a2), (3, .ref (ad 20)), (4, .int a4)]) (G : GW mSh mKs ad dc D A s σ H locs) : W p l e RmX6_leads_c20 s m args below meth c H locs 0 0 Q (F0 m 0 ls []) := by
  have hx := C0.1
  have hb := C0.2.1
  unfold fX6_leads_c20 at h
  refine lv_aload_n hx hb dX6_leads_0 rfl (lv_at hl 0 rfl) ?_
  refine lv_iload_n hx hb dX6_leads_1 rfl (lv_at hl 1 rfl) ?_
  refine lv_iload_n hx hb dX6_leads_2 rfl (lv_at hl 2 rfl) ?_
  refine lv_aload_n hx hb dX6_leads_3 rfl (lv_at hl 0 rfl) ?_
  refine m_getC C0 G 3 (by decide) rfl q1517 dX6_leads_4 ?_
  refine lv_bipush (v := 10) hx hb dX6_leads_7 (by decide +kernel) ?_
  obtain ⟨b_1, h⟩ := ckB_e h
  refine g_iald C0 G (n := 8060) (by decide) rfl b_1 dX6_leads_9 ?_
  obtain ⟨σ3, h_r2, h⟩ := bn1_e h
  refine g_callVv (rest := []) C0 G hl (ci := 6) rfl (by decide) rfl (kX6_findSpread (l := l) C0.2.2.2.2.2.2.1 G.2.2.2 h_r2) (cwV 3 C0.2.2.2.2.1 (lw_V q2039 q2041 qs93 q114 q2042) rfl rfl rfl hdX6_findSpread ⟨Nat.le_of_ble_eq_true rfl, Nat.le_of_ble_eq_true rfl⟩) rfl (Nat.le_of_ble_eq_true rfl) dX6_leads_10 ⟨Nat.zero_le _, Nat.zero_le _⟩ (fun H locs G => ?_)
  refine lv_iconst (v := 0) hx hb dX6_leads_13 (by decide +kernel) ?_
  refine lv_istore (lv' := [(5, .int 0), (0, .ref (ad 0)), (1, .int a1), (2, .int a2), (3, .ref (ad 20)), (4, .int a4)]) hx hb dX6_leads_14 hl (by decide) rfl (fun ls hl => ?_)
  refine lv_iconst (v := 0) hx hb dX6_leads_16 (by decide +kernel) ?_
  refine lv_istore (lv' := [(6, .int 0), (5, .int 0), (0, .ref (ad 0)), (1, .int a1), (2, .int a2), (3, .ref (ad 20)), (4, .int a4)]) hx hb dX6_leads_17 hl (by decide) rfl (fun ls hl => ?_)
  exact wX6_leads_c20_19 C0 a4 0 0 (σ3)  _ h Kr _ _ _ (lv_sub hl [2, 5, 6, 1, 0] rfl) G
theorem kX6_leads_c20 {l : Launch} {ad : Nat → Nat} {dc : Nat → ClassId} {D : va_G} {A : Nat → Prop}  (hi : ∀ i j, ad i = ad j → i = j) (hA : ∀ k, k ∈ mKs → A (ad k)) {σ : St} {a1 : Int32} {a2 : Int32} {a4 : Int32} {r : Int32} {σ' : St}  (h : fX6_leads_c20 a1 a2 a4 σ = some (r, σ')) : Met l yX6_leads (ws_ yX6_leads cX6_leads 7 (some .boolean)) RmX6_leads_c20 (gPc mSh mKs ad dc D σ [.ref (ad 0), .int a1, .int a2, .ref (ad 20), .int a4]) (gQi mSh mKs ad dc D A σ' r) 0 0 A :=
  g_metZ (by decide) rfl hi mKs_nd hA (Nat.le_of_ble_eq_true rfl) (fun p e s m below meth c Q C0 Kr ls hl G => wX6_leads_c20_0 C0 a1 a2 a4 σ  (r, σ') h Kr _ _ ls hl G)
-- X6_findToGo
abbrev RmX6_findToGo : Room := { frames := 5, cells := 0, slots := 0, locals := 126 }
theorem hdX6_findToGo : yX6_findToGo.cls = RX6 ∧ yX6_findToGo.cls ≠ "java/lang/invoke/MethodHandle" ∧ yX6_findToGo.cls ≠ "java/lang/invoke/VarHandle" ∧ (parseMethodDescriptor yX6_findToGo.desc).map (fun d => d.parameters.length) = some 1 := by decide +kernel
set_option maxHeartbeats 400000 in
theorem wX6_findToGo_124 (C0 : Cx ad dc D RX6 cX6_findToGo 6 p s m args meth c) (a2 : Int32) (a3 : Int32) (a4 : Int32) (σ : St)  (o : (St) ⊕ (Int32 × St)) (h : fX6_findToGo_124 a2 a3 a4 σ = some o) (Kb : ∀ (b3 : Int32) (σ' : St), o = .inr (b3, σ') → ∀ (H : Heap) (locs : List Loc) (ls : Array Slot), lv_has ls 6 [(0, .ref (ad 0)), (2, .int a2), (3, .int b3)] → GW mSh mKs ad dc D A s σ' H locs → W p l e RmX6_findToGo s m args below meth c H locs 0 0 Q (F0 m 60 ls [])) (Ke0 : ∀  (σ' : St), o = .inl (σ') → ∀ (H : Heap) (locs : List Loc) (ls : Array Slot), lv_has ls 6 [(0, .ref (ad 0)), (2, .int a2)] → GW mSh mKs ad dc D A s σ' H locs → W p l e RmX6_findToGo s m args below meth c H locs 0 0 Q (F0 m 151 ls [])) (H : Heap) (locs : List Loc) (ls : Array Slot) (hl : lv_has ls 6 [(0, .ref (ad 0)), (2, .int a2), (3, .int a3), (4, .int a4)]) (G : GW mSh mKs ad dc D A s σ H locs) : W p l e RmX6_findToGo s m args below meth c H locs 0 0 Q (F0 m 124 ls []) := by
  have hx := C0.1
  have hb := C0.2.1
  unfold fX6_findToGo_124 at h
  refine lv_aload_n hx hb dX6_findToGo_124 rfl (lv_at hl 0 rfl) ?_
  refine m_getC C0 G 52 (by decide) rfl q1566 dX6_findToGo_125 ?_
  refine lv_iload_n hx hb dX6_findToGo_128 rfl (lv_at hl 2 rfl) ?_
  refine lv_dup2_11 hx hb dX6_findToGo_129 rfl rfl ?_
  obtain ⟨b_1, h⟩ := ckB_e h
  refine g_iald C0 G (n := 59049) (by decide) rfl b_1 dX6_findToGo_130 ?_
  refine lv_iload hx hb dX6_findToGo_131 (lv_at hl 3 rfl) ?_
  refine lv_if_eq (tgt := 142) hx hb dX6_findToGo_133 (by decide) (fun c2 => ?_) (fun c2 => ?_)
  · have h := ite_t h c2
    refine lv_iconst (v := 0) hx hb dX6_findToGo_142 (by decide +kernel) ?_
    refine lv_ior hx hb dX6_findToGo_143 ?_
    obtain ⟨b_3, h⟩ := ckB_e h
    refine g_iast C0 G (n := 59049) (by decide) rfl b_3 dX6_findToGo_144 (fun σ4 H locs e_σ4 G => ?_)
    have h := letB_e h e_σ4
    obtain ⟨x5, e_x5⟩ : ∃ z : Int32, z = a3 + 1 := ⟨_, rfl⟩
    have h := letB_e h e_x5
    refine lv_iinc (v := x5) (lv' := [(3, .int x5), (0, .ref (ad 0)), (2, .int a2), (4, .int a4)]) hx hb dX6_findToGo_145 hl (k := 2) rfl ((congrArg (fun z => a3 + z) (show Int32.ofInt 1 = 1 by decide)).trans e_x5.symm) (by decide) rfl (fun ls hl => ?_)
    refine lv_goto (tgt := 60) hx hb dX6_findToGo_148 (by decide) ?_
    cases h
    exact Kb x5 (σ4) rfl _ _ _ (lv_sub hl [1, 2, 0] rfl) G
  · have h := ite_f h c2
    refine lv_iconst (v := 1) hx hb dX6_findToGo_136 (by decide +kernel) ?_
    refine lv_iload_n hx hb dX6_findToGo_137 rfl (lv_at hl 1 rfl) ?_
    refine lv_ishl hx hb dX6_findToGo_138 ?_
    refine lv_goto (tgt := 143) hx hb dX6_findToGo_139 (by decide) ?_
    refine lv_ior hx hb dX6_findToGo_143 ?_
    obtain ⟨b_6, h⟩ := ckB_e h
    refine g_iast C0 G (n := 59049) (by decide) rfl b_6 dX6_findToGo_144 (fun σ7 H locs e_σ7 G => ?_)
    have h := letB_e h e_σ7
    obtain ⟨x8, e_x8⟩ : ∃ z : Int32, z = a3 + 1 := ⟨_, rfl⟩
    have h := letB_e h e_x8
    refine lv_iinc (v := x8) (lv' := [(3, .int x8), (0, .ref (ad 0)), (2, .int a2), (4, .int a4)]) hx hb dX6_findToGo_145 hl (k := 2) rfl ((congrArg (fun z => a3 + z) (show Int32.ofInt 1 = 1 by decide)).trans e_x8.symm) (by decide) rfl (fun ls hl => ?_)
    refine lv_goto (tgt := 60) hx hb dX6_findToGo_148 (by decide) ?_
    cases h
    exact Kb x8 (σ7) rfl _ _ _ (lv_sub hl [1, 2, 0] rfl) G
set_option maxHeartbeats 400000 in
theorem wbX6_findToGo_72 (C0 : Cx ad dc D RX6 cX6_findToGo 6 p s m args meth c) (a2 : Int32) (a3 : Int32) (a4 : Int32) (a5 : Int32) (σ : St)  (o : (Int32 × St) ⊕ (Int32 × Int32 × St)) (h : bX6_findToGo_72 a2 a3 a4 a5 σ = some o) (Kb : ∀ (b4 : Int32) (b5 : Int32) (σ' : St), o = .inr (b4, b5, σ') → ∀ (H : Heap) (locs : List Loc) (ls : Array Slot), lv_has ls 6 [(0, .ref (ad 0)), (2, .int a2), (3, .int a3), (4, .int b4), (5, .int b5)] → GW mSh mKs ad dc D A s σ' H locs → W p l e RmX6_findToGo s m args below meth c H locs 0 0 Q (F0 m 72 ls [])) (Ke0 : ∀ (b4 : Int32) (σ' : St), o = .inl (b4, σ') → ∀ (H : Heap) (locs : List Loc) (ls : Array Slot), lv_has ls 6 [(0, .ref (ad 0)), (2, .int a2), (3, .int a3), (4, .int b4)] → GW mSh mKs ad dc D A s σ' H locs → W p l e RmX6_findToGo s m args below meth c H locs 0 0 Q (F0 m 124 ls [])) (H : Heap) (locs : List Loc) (ls : Array Slot) (hl : lv_has ls 6 [(0, .ref (ad 0)), (2, .int a2), (3, .int a3), (4, .int a4), (5, .int a5)]) (G : GW mSh mKs ad dc D A s σ H locs) : W p l e RmX6_findToGo s m args below meth c H locs 0 0 Q (F0 m 72 ls []) := by
  have hx := C0.1
  have hb := C0.2.1
  unfold bX6_findToGo_72 at h
  refine lv_iload hx hb dX6_findToGo_72 (lv_at hl 4 rfl) ?_
  refine lv_aload_n hx hb dX6_findToGo_74 rfl (lv_at hl 0 rfl) ?_
  refine m_getC C0 G 3 (by decide) rfl q1517 dX6_findToGo_75 ?_
  refine lv_iconst (v := 0) hx hb dX6_findToGo_78 (by decide +kernel) ?_
  obtain ⟨b_1, h⟩ := ckB_e h
  refine g_iald C0 G (n := 8060) (by decide) rfl b_1 dX6_findToGo_79 ?_
  refine lv_icmp_ge (tgt := 124) hx hb dX6_findToGo_80 (by decide) (fun c2 => ?_) (fun c2 => ?_)
  · have h := ite_t h c2
    cases h
    exact Ke0 a4 (σ) rfl _ _ _ (lv_sub hl [0, 1, 2, 3] rfl) G
  · have h := ite_f h c2
    refine lv_iload hx hb dX6_findToGo_83 (lv_at hl 3 rfl) ?_
    refine lv_if_ne (tgt := 124) hx hb dX6_findToGo_85 (by decide) (fun c3 => ?_) (fun c3 => ?_)
    · have h := ite_f h c3
      cases h
      exact Ke0 a4 (σ) rfl _ _ _ (lv_sub hl [0, 1, 2, 3] rfl) G
    · have h := ite_t h c3
      refine lv_aload_n hx hb dX6_findToGo_88 rfl (lv_at hl 0 rfl) ?_
      refine m_getC C0 G 51 (by decide) rfl q1565 dX6_findToGo_89 ?_
      refine lv_iload_n hx hb dX6_findToGo_92 rfl (lv_at hl 2 rfl) ?_
      obtain ⟨b_4, h⟩ := ckB_e h
      refine g_iald C0 G (n := 59049) (by decide) rfl b_4 dX6_findToGo_93 ?_
      refine lv_iload_n hx hb dX6_findToGo_94 rfl (lv_at hl 1 rfl) ?_
      refine lv_ishr hx hb dX6_findToGo_95 ?_
      refine lv_iconst (v := 1) hx hb dX6_findToGo_96 (by decide +kernel) ?_
      refine lv_iand hx hb dX6_findToGo_97 ?_
      refine lv_iconst (v := 1) hx hb dX6_findToGo_98 (by decide +kernel) ?_
      refine lv_icmp_ne (tgt := 124) hx hb dX6_findToGo_99 (by decide) (fun c5 => ?_) (fun c5 => ?_)
      · have h := ite_f h c5
        cases h
        exact Ke0 a4 (σ) rfl _ _ _ (lv_sub hl [0, 1, 2, 3] rfl) G
      · have h := ite_t h c5
        refine lv_aload_n hx hb dX6_findToGo_102 rfl (lv_at hl 0 rfl) ?_
        refine lv_iload_n hx hb dX6_findToGo_103 rfl (lv_at hl 2 rfl) ?_
        refine lv_iload hx hb dX6_findToGo_104 (lv_at hl 4 rfl) ?_
        refine lv_aload_n hx hb dX6_findToGo_106 rfl (lv_at hl 0 rfl) ?_
        refine m_getC C0 G 52 (by decide) rfl q1566 dX6_findToGo_107 ?_
        refine lv_iload_n hx hb dX6_findToGo_110 rfl (lv_at hl 1 rfl) ?_
        refine lv_iconst (v := 1) hx hb dX6_findToGo_111 (by decide +kernel) ?_
        refine lv_iadd hx hb dX6_findToGo_112 ?_
        obtain ⟨r6, σ7, h_r6, h⟩ := bn2_e h
        refine g_callVi (rest := []) C0 G hl (ci := 6) rfl (by decide) rfl (kX6_leads_c20 (l := l) C0.2.2.2.2.2.2.1 G.2.2.2 h_r6) (cwV 4 C0.2.2.2.2.1 (lw_V q2067 q2069 qs99 q114 q2070) rfl rfl rfl hdX6_leads_c20 ⟨Nat.le_of_ble_eq_true rfl, Nat.le_of_ble_eq_true rfl⟩) rfl (Nat.le_of_ble_eq_true rfl) dX6_findToGo_113 ⟨Nat.zero_le _, Nat.zero_le _⟩ (fun H locs G => ?_)
        refine lv_istore (lv' := [(4, .int r6), (0, .ref (ad 0)), (2, .int a2), (3, .int a3), (5, .int a5)]) hx hb dX6_findToGo_116 hl (by decide) rfl (fun ls hl => ?_)
        obtain ⟨x8, e_x8⟩ : ∃ z : Int32, z = a5 + 1 := ⟨_, rfl⟩
        have h := letB_e h e_x8
        refine lv_iinc (v := x8) (lv' := [(5, .int x8), (4, .int r6), (0, .ref (ad 0)), (2, .int a2), (3, .int a3)]) hx hb dX6_findToGo_118 hl (k := 4) rfl ((congrArg (fun z => a5 + z) (show Int32.ofInt 1 = 1 by decide)).trans e_x8.symm) (by decide) rfl (fun ls hl => ?_)
        refine lv_goto (tgt := 72) hx hb dX6_findToGo_121 (by decide) ?_
        cases h
        exact Kb r6 x8 (σ7) rfl _ _ _ (lv_sub hl [2, 3, 4, 1, 0] rfl) G
set_option maxHeartbeats 400000 in
theorem lX6_findToGo_72 (C0 : Cx ad dc D RX6 cX6_findToGo 6 p s m args meth c) (a2 : Int32) (a3 : Int32)   : ∀ (n : Nat) (a4 : Int32) (a5 : Int32) (σ : St) (ex : Int32 × St) (h : iter (fun v : Int32 × Int32 × St => bX6_findToGo_72 a2 a3 v.1 v.2.1 v.2.2) n (a4, a5, σ) = some ex) (Ke0 : ∀ (b4 : Int32) (σ' : St), ex = (b4, σ') → ∀ (H : Heap) (locs : List Loc) (ls : Array Slot), lv_has ls 6 [(0, .ref (ad 0)), (2, .int a2), (3, .int a3), (4, .int b4)] → GW mSh mKs ad dc D A s σ' H locs → W p l e RmX6_findToGo s m args below meth c H locs 0 0 Q (F0 m 124 ls [])) (H : Heap) (locs : List Loc) (ls : Array Slot) (hl : lv_has ls 6 [(0, .ref (ad 0)), (2, .int a2), (3, .int a3), (4, .int a4), (5, .int a5)]) (G : GW mSh mKs ad dc D A s σ H locs), W p l e RmX6_findToGo s m args below meth c H locs 0 0 Q (F0 m 72 ls []) := by
  intro n
  induction n with
  | zero =>
    intro a4 a5 σ ex h
    cases h
  | succ n ih =>
    intro a4 a5 σ ex h Ke0 H locs ls hl G
    obtain ⟨r, hb1, hr⟩ := iter_e h
    refine wbX6_findToGo_72 C0 a2 a3 a4 a5 σ  r hb1 ?_ ?_ H locs ls hl G
    · intro b4 b5 σ' hv H locs ls hl G
      subst hv
      rcases hr with hr | ⟨a', hr, h2⟩
      · cases hr
      · rw [← Sum.inr.inj hr] at h2
        exact ih b4 b5 σ' ex h2 Ke0 H locs ls hl G
    · intro b4 σ' hv H locs ls hl G
      subst hv
      rcases hr with hr | ⟨a', hr, h2⟩
      · exact Ke0 b4 σ' (Sum.inl.inj hr).symm H locs ls hl G
      · cases hr
set_option maxHeartbeats 400000 in
theorem wX6_findToGo_72 (C0 : Cx ad dc D RX6 cX6_findToGo 6 p s m args meth c) (a2 : Int32) (a3 : Int32) (a4 : Int32) (a5 : Int32) (σ : St)  (o : (St) ⊕ (Int32 × St)) (h : fX6_findToGo_72 a2 a3 a4 a5 σ = some o) (Kb : ∀ (b3 : Int32) (σ' : St), o = .inr (b3, σ') → ∀ (H : Heap) (locs : List Loc) (ls : Array Slot), lv_has ls 6 [(0, .ref (ad 0)), (2, .int a2), (3, .int b3)] → GW mSh mKs ad dc D A s σ' H locs → W p l e RmX6_findToGo s m args below meth c H locs 0 0 Q (F0 m 60 ls [])) (Ke0 : ∀  (σ' : St), o = .inl (σ') → ∀ (H : Heap) (locs : List Loc) (ls : Array Slot), lv_has ls 6 [(0, .ref (ad 0)), (2, .int a2)] → GW mSh mKs ad dc D A s σ' H locs → W p l e RmX6_findToGo s m args below meth c H locs 0 0 Q (F0 m 151 ls [])) (H : Heap) (locs : List Loc) (ls : Array Slot) (hl : lv_has ls 6 [(0, .ref (ad 0)), (2, .int a2), (3, .int a3), (4, .int a4), (5, .int a5)]) (G : GW mSh mKs ad dc D A s σ H locs) : W p l e RmX6_findToGo s m args below meth c H locs 0 0 Q (F0 m 72 ls []) := by
  have hx := C0.1
  have hb := C0.2.1
  unfold fX6_findToGo_72 at h
  obtain ⟨ex, h1, h⟩ := bn1_e h
  refine lX6_findToGo_72 C0 a2 a3   FU a4 a5 σ ex h1 ?_ H locs ls hl G
  · intro b4 σ' hv H locs ls hl G
    rw [hv] at h
    have h : (fX6_findToGo_124 a2 a3 b4 (σ')) = some o := h
    exact wX6_findToGo_124 C0 a2 a3 b4 (σ')  _ h Kb Ke0 _ _ _ hl G
set_option maxHeartbeats 400000 in
theorem wbX6_findToGo_60 (C0 : Cx ad dc D RX6 cX6_findToGo 6 p s m args meth c) (a2 : Int32) (a3 : Int32) (σ : St)  (o : (St) ⊕ (Int32 × St)) (h : bX6_findToGo_60 a2 a3 σ = some o) (Kb : ∀ (b3 : Int32) (σ' : St), o = .inr (b3, σ') → ∀ (H : Heap) (locs : List Loc) (ls : Array Slot), lv_has ls 6 [(0, .ref (ad 0)), (2, .int a2), (3, .int b3)] → GW mSh mKs ad dc D A s σ' H locs → W p l e RmX6_findToGo s m args below meth c H locs 0 0 Q (F0 m 60 ls [])) (Ke0 : ∀  (σ' : St), o = .inl (σ') → ∀ (H : Heap) (locs : List Loc) (ls : Array Slot), lv_has ls 6 [(0, .ref (ad 0)), (2, .int a2)] → GW mSh mKs ad dc D A s σ' H locs → W p l e RmX6_findToGo s m args below meth c H locs 0 0 Q (F0 m 151 ls [])) (H : Heap) (locs : List Loc) (ls : Array Slot) (hl : lv_has ls 6 [(0, .ref (ad 0)), (2, .int a2), (3, .int a3)]) (G : GW mSh mKs ad dc D A s σ H locs) : W p l e RmX6_findToGo s m args below meth c H locs 0 0 Q (F0 m 60 ls []) := by
  have hx := C0.1
  have hb := C0.2.1
  unfold bX6_findToGo_60 at h
  refine lv_iload_n hx hb dX6_findToGo_60 rfl (lv_at hl 2 rfl) ?_
  refine lv_ldc hx hb C0.2.2.2.1 (C0.2.2.2.2.1 _ q1513) dX6_findToGo_61 ?_
  refine lv_icmp_ge (tgt := 151) hx hb dX6_findToGo_63 (by decide) (fun c1 => ?_) (fun c1 => ?_)
  · have h := ite_t h c1
    cases h
    exact Ke0 (σ) rfl _ _ _ (lv_sub hl [0, 1] rfl) G
  · have h := ite_f h c1
    refine lv_iconst (v := 0) hx hb dX6_findToGo_66 (by decide +kernel) ?_
    refine lv_istore (lv' := [(4, .int 0), (0, .ref (ad 0)), (2, .int a2), (3, .int a3)]) hx hb dX6_findToGo_67 hl (by decide) rfl (fun ls hl => ?_)
    refine lv_iconst (v := 0) hx hb dX6_findToGo_69 (by decide +kernel) ?_
    refine lv_istore (lv' := [(5, .int 0), (4, .int 0), (0, .ref (ad 0)), (2, .int a2), (3, .int a3)]) hx hb dX6_findToGo_70 hl (by decide) rfl (fun ls hl => ?_)
    exact wX6_findToGo_72 C0 a2 a3 0 0 (σ)  _ h Kb Ke0 _ _ _ (lv_sub hl [2, 3, 4, 1, 0] rfl) G
set_option maxHeartbeats 400000 in
theorem lX6_findToGo_60 (C0 : Cx ad dc D RX6 cX6_findToGo 6 p s m args meth c) (a2 : Int32)   : ∀ (n : Nat) (a3 : Int32) (σ : St) (ex : St) (h : iter (fun v : Int32 × St => bX6_findToGo_60 a2 v.1 v.2) n (a3, σ) = some ex) (Ke0 : ∀  (σ' : St), ex = σ' → ∀ (H : Heap) (locs : List Loc) (ls : Array Slot), lv_has ls 6 [(0, .ref (ad 0)), (2, .int a2)] → GW mSh mKs ad dc D A s σ' H locs → W p l e RmX6_findToGo s m args below meth c H locs 0 0 Q (F0 m 151 ls [])) (H : Heap) (locs : List Loc) (ls : Array Slot) (hl : lv_has ls 6 [(0, .ref (ad 0)), (2, .int a2), (3, .int a3)]) (G : GW mSh mKs ad dc D A s σ H locs), W p l e RmX6_findToGo s m args below meth c H locs 0 0 Q (F0 m 60 ls []) := by
  intro n
  induction n with
  | zero =>
    intro a3 σ ex h
    cases h
  | succ n ih =>
    intro a3 σ ex h Ke0 H locs ls hl G
    obtain ⟨r, hb1, hr⟩ := iter_e h
    refine wbX6_findToGo_60 C0 a2 a3 σ  r hb1 ?_ ?_ H locs ls hl G
    · intro b3 σ' hv H locs ls hl G
      subst hv
      rcases hr with hr | ⟨a', hr, h2⟩
      · cases hr
      · rw [← Sum.inr.inj hr] at h2
        exact ih b3 σ' ex h2 Ke0 H locs ls hl G
    · intro σ' hv H locs ls hl G
      subst hv
      rcases hr with hr | ⟨a', hr, h2⟩
      · exact Ke0 σ' (Sum.inl.inj hr).symm H locs ls hl G
      · cases hr
set_option maxHeartbeats 400000 in
theorem wX6_findToGo_60 (C0 : Cx ad dc D RX6 cX6_findToGo 6 p s m args meth c) (a2 : Int32) (a3 : Int32) (σ : St)  (o : (St) ⊕ (Int32 × St)) (h : fX6_findToGo_60 a2 a3 σ = some o) (Kb : ∀ (b2 : Int32) (σ' : St), o = .inr (b2, σ') → ∀ (H : Heap) (locs : List Loc) (ls : Array Slot), lv_has ls 6 [(0, .ref (ad 0)), (2, .int b2)] → GW mSh mKs ad dc D A s σ' H locs → W p l e RmX6_findToGo s m args below meth c H locs 0 0 Q (F0 m 54 ls [])) (Ke0 : ∀  (σ' : St), o = .inl (σ') → ∀ (H : Heap) (locs : List Loc) (ls : Array Slot), lv_has ls 6 [] → GW mSh mKs ad dc D A s σ' H locs → W p l e RmX6_findToGo s m args below meth c H locs 0 0 Q (F0 m 157 ls [])) (H : Heap) (locs : List Loc) (ls : Array Slot) (hl : lv_has ls 6 [(0, .ref (ad 0)), (2, .int a2), (3, .int a3)]) (G : GW mSh mKs ad dc D A s σ H locs) : W p l e RmX6_findToGo s m args below meth c H locs 0 0 Q (F0 m 60 ls []) := by
  have hx := C0.1
  have hb := C0.2.1
  unfold fX6_findToGo_60 at h
  obtain ⟨ex, h1, h⟩ := bn1_e h
  refine lX6_findToGo_60 C0 a2   FU a3 σ ex h1 ?_ H locs ls hl G
  · intro σ' hv H locs ls hl G
    rw [hv] at h
    have h : (letB (a2 + (-1)) (fun x1 => some (.inr (x1, σ')))) = some o := h
    obtain ⟨x1, e_x1⟩ : ∃ z : Int32, z = a2 + (-1) := ⟨_, rfl⟩
    have h := letB_e h e_x1
    refine lv_iinc (v := x1) (lv' := [(2, .int x1), (0, .ref (ad 0))]) hx hb dX6_findToGo_151 hl (k := 1) rfl ((congrArg (fun z => a2 + z) (show Int32.ofInt (-1) = (-1) by decide)).trans e_x1.symm) (by decide) rfl (fun ls hl => ?_)
    refine lv_goto (tgt := 54) hx hb dX6_findToGo_154 (by decide) ?_
    cases h
    exact Kb x1 (σ') rfl _ _ _ (lv_sub hl [1, 0] rfl) G
set_option maxHeartbeats 400000 in
theorem wbX6_findToGo_54 (C0 : Cx ad dc D RX6 cX6_findToGo 6 p s m args meth c) (a2 : Int32) (σ : St)  (o : (St) ⊕ (Int32 × St)) (h : bX6_findToGo_54 a2 σ = some o) (Kb : ∀ (b2 : Int32) (σ' : St), o = .inr (b2, σ') → ∀ (H : Heap) (locs : List Loc) (ls : Array Slot), lv_has ls 6 [(0, .ref (ad 0)), (2, .int b2)] → GW mSh mKs ad dc D A s σ' H locs → W p l e RmX6_findToGo s m args below meth c H locs 0 0 Q (F0 m 54 ls [])) (Ke0 : ∀  (σ' : St), o = .inl (σ') → ∀ (H : Heap) (locs : List Loc) (ls : Array Slot), lv_has ls 6 [] → GW mSh mKs ad dc D A s σ' H locs → W p l e RmX6_findToGo s m args below meth c H locs 0 0 Q (F0 m 157 ls [])) (H : Heap) (locs : List Loc) (ls : Array Slot) (hl : lv_has ls 6 [(0, .ref (ad 0)), (2, .int a2)]) (G : GW mSh mKs ad dc D A s σ H locs) : W p l e RmX6_findToGo s m args below meth c H locs 0 0 Q (F0 m 54 ls []) := by
  have hx := C0.1
  have hb := C0.2.1
  unfold bX6_findToGo_54 at h
  refine lv_iload_n hx hb dX6_findToGo_54 rfl (lv_at hl 1 rfl) ?_
  refine lv_if_lt (tgt := 157) hx hb dX6_findToGo_55 (by decide) (fun c1 => ?_) (fun c1 => ?_)
  · have h := ite_t h c1
    cases h
    exact Ke0 (σ) rfl _ _ _ (lv_sub hl [] rfl) G
  · have h := ite_f h c1
    refine lv_iconst (v := 0) hx hb dX6_findToGo_58 (by decide +kernel) ?_
    refine lv_istore_n (lv' := [(3, .int 0), (0, .ref (ad 0)), (2, .int a2)]) hx hb dX6_findToGo_59 rfl hl (by decide) rfl (fun ls hl => ?_)
    exact wX6_findToGo_60 C0 a2 0 (σ)  _ h Kb Ke0 _ _ _ (lv_sub hl [1, 2, 0] rfl) G
set_option maxHeartbeats 400000 in
theorem lX6_findToGo_54 (C0 : Cx ad dc D RX6 cX6_findToGo 6 p s m args meth c)    : ∀ (n : Nat) (a2 : Int32) (σ : St) (ex : St) (h : iter (fun v : Int32 × St => bX6_findToGo_54 v.1 v.2) n (a2, σ) = some ex) (Ke0 : ∀  (σ' : St), ex = σ' → ∀ (H : Heap) (locs : List Loc) (ls : Array Slot), lv_has ls 6 [] → GW mSh mKs ad dc D A s σ' H locs → W p l e RmX6_findToGo s m args below meth c H locs 0 0 Q (F0 m 157 ls [])) (H : Heap) (locs : List Loc) (ls : Array Slot) (hl : lv_has ls 6 [(0, .ref (ad 0)), (2, .int a2)]) (G : GW mSh mKs ad dc D A s σ H locs), W p l e RmX6_findToGo s m args below meth c H locs 0 0 Q (F0 m 54 ls []) := by
  intro n
  induction n with
  | zero =>
    intro a2 σ ex h
    cases h
  | succ n ih =>
    intro a2 σ ex h Ke0 H locs ls hl G
    obtain ⟨r, hb1, hr⟩ := iter_e h
    refine wbX6_findToGo_54 C0 a2 σ  r hb1 ?_ ?_ H locs ls hl G
    · intro b2 σ' hv H locs ls hl G
      subst hv
      rcases hr with hr | ⟨a', hr, h2⟩
      · cases hr
      · rw [← Sum.inr.inj hr] at h2
        exact ih b2 σ' ex h2 Ke0 H locs ls hl G
    · intro σ' hv H locs ls hl G
      subst hv
      rcases hr with hr | ⟨a', hr, h2⟩
      · exact Ke0 σ' (Sum.inl.inj hr).symm H locs ls hl G
      · cases hr
set_option maxHeartbeats 400000 in
theorem wX6_findToGo_54 (C0 : Cx ad dc D RX6 cX6_findToGo 6 p s m args meth c) (a2 : Int32) (σ : St)  (o : St) (h : fX6_findToGo_54 a2 σ = some o) (Kr : KrV p l e RmX6_findToGo s m args below meth c cX6_findToGo Q (GW mSh mKs ad dc D A s o)) (H : Heap) (locs : List Loc) (ls : Array Slot) (hl : lv_has ls 6 [(0, .ref (ad 0)), (2, .int a2)]) (G : GW mSh mKs ad dc D A s σ H locs) : W p l e RmX6_findToGo s m args below meth c H locs 0 0 Q (F0 m 54 ls []) := by
  have hx := C0.1
  have hb := C0.2.1
  unfold fX6_findToGo_54 at h
  obtain ⟨ex, h1, h⟩ := bn1_e h
  refine lX6_findToGo_54 C0    FU a2 σ ex h1 ?_ H locs ls hl G
  · intro σ' hv H locs ls hl G
    rw [hv] at h
    have h : (some σ') = some o := h
    cases h
    exact Kr _ _ _ _ dX6_findToGo_157 G
set_option maxHeartbeats 400000 in
theorem wX6_findToGo_35 (C0 : Cx ad dc D RX6 cX6_findToGo 6 p s m args meth c) (a1 : Int32) (σ : St)  (o : St) (h : fX6_findToGo_35 a1 σ = some o) (Kr : KrV p l e RmX6_findToGo s m args below meth c cX6_findToGo Q (GW mSh mKs ad dc D A s o)) (H : Heap) (locs : List Loc) (ls : Array Slot) (hl : lv_has ls 6 [(0, .ref (ad 0)), (1, .int a1)]) (G : GW mSh mKs ad dc D A s σ H locs) : W p l e RmX6_findToGo s m args below meth c H locs 0 0 Q (F0 m 35 ls []) := by
  have hx := C0.1
  have hb := C0.2.1
  unfold fX6_findToGo_35 at h
  refine lv_aload_n hx hb dX6_findToGo_35 rfl (lv_at hl 0 rfl) ?_
  refine m_getC C0 G 52 (by decide) rfl q1566 dX6_findToGo_36 ?_
  refine lv_iload_n hx hb dX6_findToGo_39 rfl (lv_at hl 1 rfl) ?_
  refine lv_iconst (v := 1) hx hb dX6_findToGo_40 (by decide +kernel) ?_
  refine lv_aload_n hx hb dX6_findToGo_41 rfl (lv_at hl 0 rfl) ?_
  refine m_getI C0 G 60 (by decide) rfl q1574 dX6_findToGo_42 ?_
  refine lv_ishl hx hb dX6_findToGo_45 ?_
  obtain ⟨b_1, h⟩ := ckB_e h
  refine g_iast C0 G (n := 59049) (by decide) rfl b_1 dX6_findToGo_46 (fun σ2 H locs e_σ2 G => ?_)
  have h := letB_e h e_σ2
  refine lv_aload_n hx hb dX6_findToGo_47 rfl (lv_at hl 0 rfl) ?_
  refine m_getI C0 G 60 (by decide) rfl q1574 dX6_findToGo_48 ?_
  refine lv_iconst (v := 1) hx hb dX6_findToGo_51 (by decide +kernel) ?_
  refine lv_isub hx hb dX6_findToGo_52 ?_
  refine lv_topi (fun x3 e_x3 => ?_)
  have h := letB_e h e_x3
  refine lv_istore_n (lv' := [(2, .int x3), (0, .ref (ad 0)), (1, .int a1)]) hx hb dX6_findToGo_53 rfl hl (by decide) rfl (fun ls hl => ?_)
  exact wX6_findToGo_54 C0 x3 (σ2)  _ h Kr _ _ _ (lv_sub hl [1, 0] rfl) G
set_option maxHeartbeats 400000 in
theorem wbX6_findToGo_2 (C0 : Cx ad dc D RX6 cX6_findToGo 6 p s m args meth c) (a1 : Int32) (a2 : Int32) (σ : St)  (o : (St) ⊕ (Int32 × St)) (h : bX6_findToGo_2 a1 a2 σ = some o) (Kb : ∀ (b2 : Int32) (σ' : St), o = .inr (b2, σ') → ∀ (H : Heap) (locs : List Loc) (ls : Array Slot), lv_has ls 6 [(0, .ref (ad 0)), (1, .int a1), (2, .int b2)] → GW mSh mKs ad dc D A s σ' H locs → W p l e RmX6_findToGo s m args below meth c H locs 0 0 Q (F0 m 2 ls [])) (Ke0 : ∀  (σ' : St), o = .inl (σ') → ∀ (H : Heap) (locs : List Loc) (ls : Array Slot), lv_has ls 6 [(0, .ref (ad 0)), (1, .int a1)] → GW mSh mKs ad dc D A s σ' H locs → W p l e RmX6_findToGo s m args below meth c H locs 0 0 Q (F0 m 35 ls [])) (H : Heap) (locs : List Loc) (ls : Array Slot) (hl : lv_has ls 6 [(0, .ref (ad 0)), (1, .int a1), (2, .int a2)]) (G : GW mSh mKs ad dc D A s σ H locs) : W p l e RmX6_findToGo s m args below meth c H locs 0 0 Q (F0 m 2 ls []) := by
  have hx := C0.1
  have hb := C0.2.1
  unfold bX6_findToGo_2 at h
  refine lv_iload_n hx hb dX6_findToGo_2 rfl (lv_at hl 2 rfl) ?_
  refine lv_ldc hx hb C0.2.2.2.1 (C0.2.2.2.2.1 _ q1513) dX6_findToGo_3 ?_
  refine lv_icmp_ge (tgt := 35) hx hb dX6_findToGo_5 (by decide) (fun c1 => ?_) (fun c1 => ?_)
  · have h := ite_t h c1
    cases h
    exact Ke0 (σ) rfl _ _ _ (lv_sub hl [0, 1] rfl) G
  · have h := ite_f h c1
    refine lv_aload_n hx hb dX6_findToGo_8 rfl (lv_at hl 0 rfl) ?_
    refine m_getC C0 G 52 (by decide) rfl q1566 dX6_findToGo_9 ?_
    refine lv_iload_n hx hb dX6_findToGo_12 rfl (lv_at hl 2 rfl) ?_
    refine lv_iconst (v := 0) hx hb dX6_findToGo_13 (by decide +kernel) ?_
    obtain ⟨b_2, h⟩ := ckB_e h
    refine g_iast C0 G (n := 59049) (by decide) rfl b_2 dX6_findToGo_14 (fun σ3 H locs e_σ3 G => ?_)
    have h := letB_e h e_σ3
    refine lv_aload_n hx hb dX6_findToGo_15 rfl (lv_at hl 0 rfl) ?_
    refine m_getC C0 G 53 (by decide) rfl q1567 dX6_findToGo_16 ?_
    refine lv_iload_n hx hb dX6_findToGo_19 rfl (lv_at hl 2 rfl) ?_
    refine lv_iconst (v := 0) hx hb dX6_findToGo_20 (by decide +kernel) ?_
    obtain ⟨b_4, h⟩ := ckB_e h
    refine g_iast C0 G (n := 59049) (by decide) rfl b_4 dX6_findToGo_21 (fun σ5 H locs e_σ5 G => ?_)
    have h := letB_e h e_σ5
    refine lv_aload_n hx hb dX6_findToGo_22 rfl (lv_at hl 0 rfl) ?_
    refine m_getC C0 G 54 (by decide) rfl q1568 dX6_findToGo_23 ?_
    refine lv_iload_n hx hb dX6_findToGo_26 rfl (lv_at hl 2 rfl) ?_
    refine lv_iconst (v := 0) hx hb dX6_findToGo_27 (by decide +kernel) ?_
    obtain ⟨b_6, h⟩ := ckB_e h
    refine g_iast C0 G (n := 59049) (by decide) rfl b_6 dX6_findToGo_28 (fun σ7 H locs e_σ7 G => ?_)
    have h := letB_e h e_σ7
    obtain ⟨x8, e_x8⟩ : ∃ z : Int32, z = a2 + 1 := ⟨_, rfl⟩
    have h := letB_e h e_x8
    refine lv_iinc (v := x8) (lv' := [(2, .int x8), (0, .ref (ad 0)), (1, .int a1)]) hx hb dX6_findToGo_29 hl (k := 2) rfl ((congrArg (fun z => a2 + z) (show Int32.ofInt 1 = 1 by decide)).trans e_x8.symm) (by decide) rfl (fun ls hl => ?_)
    refine lv_goto (tgt := 2) hx hb dX6_findToGo_32 (by decide) ?_
    cases h
    exact Kb x8 (σ7) rfl _ _ _ (lv_sub hl [1, 2, 0] rfl) G
set_option maxHeartbeats 400000 in
theorem lX6_findToGo_2 (C0 : Cx ad dc D RX6 cX6_findToGo 6 p s m args meth c) (a1 : Int32)   : ∀ (n : Nat) (a2 : Int32) (σ : St) (ex : St) (h : iter (fun v : Int32 × St => bX6_findToGo_2 a1 v.1 v.2) n (a2, σ) = some ex) (Ke0 : ∀  (σ' : St), ex = σ' → ∀ (H : Heap) (locs : List Loc) (ls : Array Slot), lv_has ls 6 [(0, .ref (ad 0)), (1, .int a1)] → GW mSh mKs ad dc D A s σ' H locs → W p l e RmX6_findToGo s m args below meth c H locs 0 0 Q (F0 m 35 ls [])) (H : Heap) (locs : List Loc) (ls : Array Slot) (hl : lv_has ls 6 [(0, .ref (ad 0)), (1, .int a1), (2, .int a2)]) (G : GW mSh mKs ad dc D A s σ H locs), W p l e RmX6_findToGo s m args below meth c H locs 0 0 Q (F0 m 2 ls []) := by
  intro n
  induction n with
  | zero =>
    intro a2 σ ex h
    cases h
  | succ n ih =>
    intro a2 σ ex h Ke0 H locs ls hl G
    obtain ⟨r, hb1, hr⟩ := iter_e h
    refine wbX6_findToGo_2 C0 a1 a2 σ  r hb1 ?_ ?_ H locs ls hl G
    · intro b2 σ' hv H locs ls hl G
      subst hv
      rcases hr with hr | ⟨a', hr, h2⟩
      · cases hr
      · rw [← Sum.inr.inj hr] at h2
        exact ih b2 σ' ex h2 Ke0 H locs ls hl G
    · intro σ' hv H locs ls hl G
      subst hv
      rcases hr with hr | ⟨a', hr, h2⟩
      · exact Ke0 σ' (Sum.inl.inj hr).symm H locs ls hl G
      · cases hr
set_option maxHeartbeats 400000 in
theorem wX6_findToGo_2 (C0 : Cx ad dc D RX6 cX6_findToGo 6 p s m args meth c) (a1 : Int32) (a2 : Int32) (σ : St)  (o : St) (h : fX6_findToGo_2 a1 a2 σ = some o) (Kr : KrV p l e RmX6_findToGo s m args below meth c cX6_findToGo Q (GW mSh mKs ad dc D A s o)) (H : Heap) (locs : List Loc) (ls : Array Slot) (hl : lv_has ls 6 [(0, .ref (ad 0)), (1, .int a1), (2, .int a2)]) (G : GW mSh mKs ad dc D A s σ H locs) : W p l e RmX6_findToGo s m args below meth c H locs 0 0 Q (F0 m 2 ls []) := by
  have hx := C0.1
  have hb := C0.2.1
  unfold fX6_findToGo_2 at h
  obtain ⟨ex, h1, h⟩ := bn1_e h
  refine lX6_findToGo_2 C0 a1   FU a2 σ ex h1 ?_ H locs ls hl G
  · intro σ' hv H locs ls hl G
    rw [hv] at h
    have h : (fX6_findToGo_35 a1 (σ')) = some o := h
    exact wX6_findToGo_35 C0 a1 (σ')  _ h Kr _ _ _ hl G
set_option maxHeartbeats 400000 in
theorem wX6_findToGo_0 (C0 : Cx ad dc D RX6 cX6_findToGo 6 p s m args meth c) (a1 : Int32) (σ : St)  (o : St) (h : fX6_findToGo a1 σ = some o) (Kr : KrV p l e RmX6_findToGo s m args below meth c cX6_findToGo Q (GW mSh mKs ad dc D A s o)) (H : Heap) (locs : List Loc) (ls : Array Slot) (hl : lv_has ls 6 [(0, .ref (ad 0)), (1, .int a1)]) (G : GW mSh mKs ad dc D A s σ H locs) : W p l e RmX6_findToGo s m args below meth c H locs 0 0 Q (F0 m 0 ls []) := by
  have hx := C0.1
  have hb := C0.2.1
  unfold fX6_findToGo at h
  refine lv_iconst (v := 0) hx hb dX6_findToGo_0 (by decide +kernel) ?_
  refine lv_istore_n (lv' := [(2, .int 0), (0, .ref (ad 0)), (1, .int a1)]) hx hb dX6_findToGo_1 rfl hl (by decide) rfl (fun ls hl => ?_)
  exact wX6_findToGo_2 C0 a1 0 (σ)  _ h Kr _ _ _ (lv_sub hl [1, 2, 0] rfl) G
theorem kX6_findToGo {l : Launch} {ad : Nat → Nat} {dc : Nat → ClassId} {D : va_G} {A : Nat → Prop}  (hi : ∀ i j, ad i = ad j → i = j) (hA : ∀ k, k ∈ mKs → A (ad k)) {σ : St} {a1 : Int32}  {σ' : St}  (h : fX6_findToGo a1 σ = some (σ')) : Met l yX6_findToGo (ws_ yX6_findToGo cX6_findToGo 6 none) RmX6_findToGo (gPc mSh mKs ad dc D σ [.ref (ad 0), .int a1]) (gQv mSh mKs ad dc D A σ') 0 0 A :=
  g_metV (by decide) rfl hi mKs_nd hA (Nat.le_of_ble_eq_true rfl) (fun p e s m below meth c Q C0 Kr ls hl G => wX6_findToGo_0 C0 a1 σ  (σ') h Kr _ _ ls hl G)
-- X6_chooseCell
abbrev RmX6_chooseCell : Room := { frames := 5, cells := 0, slots := 0, locals := 126 }
theorem hdX6_chooseCell : yX6_chooseCell.cls = RX6 ∧ yX6_chooseCell.cls ≠ "java/lang/invoke/MethodHandle" ∧ yX6_chooseCell.cls ≠ "java/lang/invoke/VarHandle" ∧ (parseMethodDescriptor yX6_chooseCell.desc).map (fun d => d.parameters.length) = some 1 := by decide +kernel
set_option maxHeartbeats 400000 in
theorem wbX6_chooseCell_22 (C0 : Cx ad dc D RX6 cX6_chooseCell 5 p s m args meth c) (a1 : Int32) (a2 : Int32) (a3 : Int32) (a4 : Int32) (σ : St)  (o : (Int32 × St) ⊕ (Int32 × Int32 × St)) (h : bX6_chooseCell_22 a1 a2 a3 a4 σ = some o) (Kb : ∀ (b2 : Int32) (b4 : Int32) (σ' : St), o = .inr (b2, b4, σ') → ∀ (H : Heap) (locs : List Loc) (ls : Array Slot), lv_has ls 5 [(0, .ref (ad 0)), (1, .int a1), (2, .int b2), (3, .int a3), (4, .int b4)] → GW mSh mKs ad dc D A s σ' H locs → W p l e RmX6_chooseCell s m args below meth c H locs 0 0 Q (F0 m 22 ls [])) (Ke0 : ∀ (b2 : Int32) (σ' : St), o = .inl (b2, σ') → ∀ (H : Heap) (locs : List Loc) (ls : Array Slot), lv_has ls 5 [(0, .ref (ad 0)), (1, .int a1), (2, .int b2), (3, .int a3)] → GW mSh mKs ad dc D A s σ' H locs → W p l e RmX6_chooseCell s m args below meth c H locs 0 0 Q (F0 m 78 ls [])) (H : Heap) (locs : List Loc) (ls : Array Slot) (hl : lv_has ls 5 [(0, .ref (ad 0)), (1, .int a1), (2, .int a2), (3, .int a3), (4, .int a4)]) (G : GW mSh mKs ad dc D A s σ H locs) : W p l e RmX6_chooseCell s m args below meth c H locs 0 0 Q (F0 m 22 ls []) := by
  have hx := C0.1
  have hb := C0.2.1
  unfold bX6_chooseCell_22 at h
  refine lv_iload hx hb dX6_chooseCell_22 (lv_at hl 4 rfl) ?_
  refine lv_ldc hx hb C0.2.2.2.1 (C0.2.2.2.2.1 _ q1513) dX6_chooseCell_24 ?_
  refine lv_icmp_ge (tgt := 78) hx hb dX6_chooseCell_26 (by decide) (fun c1 => ?_) (fun c1 => ?_)
  · have h := ite_t h c1
    cases h
    exact Ke0 a2 (σ) rfl _ _ _ (lv_sub hl [0, 1, 2, 3] rfl) G
  · have h := ite_f h c1
    refine lv_iload_n hx hb dX6_chooseCell_29 rfl (lv_at hl 2 rfl) ?_
    refine lv_iconst (v := (-1)) hx hb dX6_chooseCell_30 (by decide +kernel) ?_
    refine lv_icmp_ne (tgt := 78) hx hb dX6_chooseCell_31 (by decide) (fun c2 => ?_) (fun c2 => ?_)
    · have h := ite_f h c2
      cases h
      exact Ke0 a2 (σ) rfl _ _ _ (lv_sub hl [0, 1, 2, 3] rfl) G
    · have h := ite_t h c2
      refine lv_aload_n hx hb dX6_chooseCell_34 rfl (lv_at hl 0 rfl) ?_
      refine m_getC C0 G 53 (by decide) rfl q1567 dX6_chooseCell_35 ?_
      refine lv_iload hx hb dX6_chooseCell_38 (lv_at hl 4 rfl) ?_
      obtain ⟨b_3, h⟩ := ckB_e h
      refine g_iald C0 G (n := 59049) (by decide) rfl b_3 dX6_chooseCell_40 ?_
      refine lv_iload_n hx hb dX6_chooseCell_41 rfl (lv_at hl 1 rfl) ?_
      refine lv_ishr hx hb dX6_chooseCell_42 ?_
      refine lv_iconst (v := 1) hx hb dX6_chooseCell_43 (by decide +kernel) ?_
      refine lv_iand hx hb dX6_chooseCell_44 ?_
      refine lv_iconst (v := 1) hx hb dX6_chooseCell_45 (by decide +kernel) ?_
      refine lv_icmp_ne (tgt := 70) hx hb dX6_chooseCell_46 (by decide) (fun c4 => ?_) (fun c4 => ?_)
      · have h := ite_f h c4
        refine lv_iconst (v := (-1)) hx hb dX6_chooseCell_70 (by decide +kernel) ?_
        refine lv_istore_n (lv' := [(2, .int (-1)), (0, .ref (ad 0)), (1, .int a1), (3, .int a3), (4, .int a4)]) hx hb dX6_chooseCell_71 rfl hl (by decide) rfl (fun ls hl => ?_)
        obtain ⟨x5, e_x5⟩ : ∃ z : Int32, z = a4 + 1 := ⟨_, rfl⟩
        have h := letB_e h e_x5
        refine lv_iinc (v := x5) (lv' := [(4, .int x5), (2, .int (-1)), (0, .ref (ad 0)), (1, .int a1), (3, .int a3)]) hx hb dX6_chooseCell_72 hl (k := 4) rfl ((congrArg (fun z => a4 + z) (show Int32.ofInt 1 = 1 by decide)).trans e_x5.symm) (by decide) rfl (fun ls hl => ?_)
        refine lv_goto (tgt := 22) hx hb dX6_chooseCell_75 (by decide) ?_
        cases h
        exact Kb (-1) x5 (σ) rfl _ _ _ (lv_sub hl [2, 3, 1, 4, 0] rfl) G
      · have h := ite_t h c4
        refine lv_aload_n hx hb dX6_chooseCell_49 rfl (lv_at hl 0 rfl) ?_
        refine lv_iload hx hb dX6_chooseCell_50 (lv_at hl 4 rfl) ?_
        refine lv_iload_n hx hb dX6_chooseCell_52 rfl (lv_at hl 3 rfl) ?_
        refine lv_aload_n hx hb dX6_chooseCell_53 rfl (lv_at hl 0 rfl) ?_
        refine m_getC C0 G 52 (by decide) rfl q1566 dX6_chooseCell_54 ?_
        refine lv_iload_n hx hb dX6_chooseCell_57 rfl (lv_at hl 1 rfl) ?_
        refine lv_iconst (v := 1) hx hb dX6_chooseCell_58 (by decide +kernel) ?_
        refine lv_iadd hx hb dX6_chooseCell_59 ?_
        obtain ⟨r6, σ7, h_r6, h⟩ := bn2_e h
        refine g_callVi (rest := []) C0 G hl (ci := 6) rfl (by decide) rfl (kX6_leads_c20 (l := l) C0.2.2.2.2.2.2.1 G.2.2.2 h_r6) (cwV 4 C0.2.2.2.2.1 (lw_V q2067 q2069 qs99 q114 q2070) rfl rfl rfl hdX6_leads_c20 ⟨Nat.le_of_ble_eq_true rfl, Nat.le_of_ble_eq_true rfl⟩) rfl (Nat.le_of_ble_eq_true rfl) dX6_chooseCell_60 ⟨Nat.zero_le _, Nat.zero_le _⟩ (fun H locs G => ?_)
        refine lv_if_eq (tgt := 70) hx hb dX6_chooseCell_63 (by decide) (fun c8 => ?_) (fun c8 => ?_)
        · have h := ite_t h c8
          refine lv_iconst (v := (-1)) hx hb dX6_chooseCell_70 (by decide +kernel) ?_
          refine lv_istore_n (lv' := [(2, .int (-1)), (0, .ref (ad 0)), (1, .int a1), (3, .int a3), (4, .int a4)]) hx hb dX6_chooseCell_71 rfl hl (by decide) rfl (fun ls hl => ?_)
          obtain ⟨x9, e_x9⟩ : ∃ z : Int32, z = a4 + 1 := ⟨_, rfl⟩
          have h := letB_e h e_x9
          refine lv_iinc (v := x9) (lv' := [(4, .int x9), (2, .int (-1)), (0, .ref (ad 0)), (1, .int a1), (3, .int a3)]) hx hb dX6_chooseCell_72 hl (k := 4) rfl ((congrArg (fun z => a4 + z) (show Int32.ofInt 1 = 1 by decide)).trans e_x9.symm) (by decide) rfl (fun ls hl => ?_)
          refine lv_goto (tgt := 22) hx hb dX6_chooseCell_75 (by decide) ?_
          cases h
          exact Kb (-1) x9 (σ7) rfl _ _ _ (lv_sub hl [2, 3, 1, 4, 0] rfl) G
        · have h := ite_f h c8
          refine lv_iload_n hx hb dX6_chooseCell_66 rfl (lv_at hl 3 rfl) ?_
          refine lv_goto (tgt := 71) hx hb dX6_chooseCell_67 (by decide) ?_
          refine lv_istore_n (lv' := [(2, .int a3), (0, .ref (ad 0)), (1, .int a1), (3, .int a3), (4, .int a4)]) hx hb dX6_chooseCell_71 rfl hl (by decide) rfl (fun ls hl => ?_)
          obtain ⟨x10, e_x10⟩ : ∃ z : Int32, z = a4 + 1 := ⟨_, rfl⟩
          have h := letB_e h e_x10
          refine lv_iinc (v := x10) (lv' := [(4, .int x10), (2, .int a3), (0, .ref (ad 0)), (1, .int a1), (3, .int a3)]) hx hb dX6_chooseCell_72 hl (k := 4) rfl ((congrArg (fun z => a4 + z) (show Int32.ofInt 1 = 1 by decide)).trans e_x10.symm) (by decide) rfl (fun ls hl => ?_)
          refine lv_goto (tgt := 22) hx hb dX6_chooseCell_75 (by decide) ?_
          cases h
          exact Kb a3 x10 (σ7) rfl _ _ _ (lv_sub hl [2, 3, 1, 4, 0] rfl) G
set_option maxHeartbeats 400000 in
theorem lX6_chooseCell_22 (C0 : Cx ad dc D RX6 cX6_chooseCell 5 p s m args meth c) (a1 : Int32) (a3 : Int32)   : ∀ (n : Nat) (a2 : Int32) (a4 : Int32) (σ : St) (ex : Int32 × St) (h : iter (fun v : Int32 × Int32 × St => bX6_chooseCell_22 a1 v.1 a3 v.2.1 v.2.2) n (a2, a4, σ) = some ex) (Ke0 : ∀ (b2 : Int32) (σ' : St), ex = (b2, σ') → ∀ (H : Heap) (locs : List Loc) (ls : Array Slot), lv_has ls 5 [(0, .ref (ad 0)), (1, .int a1), (2, .int b2), (3, .int a3)] → GW mSh mKs ad dc D A s σ' H locs → W p l e RmX6_chooseCell s m args below meth c H locs 0 0 Q (F0 m 78 ls [])) (H : Heap) (locs : List Loc) (ls : Array Slot) (hl : lv_has ls 5 [(0, .ref (ad 0)), (1, .int a1), (2, .int a2), (3, .int a3), (4, .int a4)]) (G : GW mSh mKs ad dc D A s σ H locs), W p l e RmX6_chooseCell s m args below meth c H locs 0 0 Q (F0 m 22 ls []) := by
  intro n
  induction n with
  | zero =>
    intro a2 a4 σ ex h
    cases h
  | succ n ih =>
    intro a2 a4 σ ex h Ke0 H locs ls hl G
    obtain ⟨r, hb1, hr⟩ := iter_e h
    refine wbX6_chooseCell_22 C0 a1 a2 a3 a4 σ  r hb1 ?_ ?_ H locs ls hl G
    · intro b2 b4 σ' hv H locs ls hl G
      subst hv
      rcases hr with hr | ⟨a', hr, h2⟩
      · cases hr
      · rw [← Sum.inr.inj hr] at h2
        exact ih b2 b4 σ' ex h2 Ke0 H locs ls hl G
    · intro b2 σ' hv H locs ls hl G
      subst hv
      rcases hr with hr | ⟨a', hr, h2⟩
      · exact Ke0 b2 σ' (Sum.inl.inj hr).symm H locs ls hl G
      · cases hr
set_option maxHeartbeats 400000 in
theorem wX6_chooseCell_22 (C0 : Cx ad dc D RX6 cX6_chooseCell 5 p s m args meth c) (a1 : Int32) (a2 : Int32) (a3 : Int32) (a4 : Int32) (σ : St)  (o : (Int32 × St) ⊕ (Int32 × Int32 × St)) (h : fX6_chooseCell_22 a1 a2 a3 a4 σ = some o) (Kb : ∀ (b2 : Int32) (b3 : Int32) (σ' : St), o = .inr (b2, b3, σ') → ∀ (H : Heap) (locs : List Loc) (ls : Array Slot), lv_has ls 5 [(0, .ref (ad 0)), (1, .int a1), (2, .int b2), (3, .int b3)] → GW mSh mKs ad dc D A s σ' H locs → W p l e RmX6_chooseCell s m args below meth c H locs 0 0 Q (F0 m 4 ls [])) (Ke0 : ∀ (b2 : Int32) (σ' : St), o = .inl (b2, σ') → ∀ (H : Heap) (locs : List Loc) (ls : Array Slot), lv_has ls 5 [(0, .ref (ad 0)), (1, .int a1), (2, .int b2)] → GW mSh mKs ad dc D A s σ' H locs → W p l e RmX6_chooseCell s m args below meth c H locs 0 0 Q (F0 m 84 ls [])) (H : Heap) (locs : List Loc) (ls : Array Slot) (hl : lv_has ls 5 [(0, .ref (ad 0)), (1, .int a1), (2, .int a2), (3, .int a3), (4, .int a4)]) (G : GW mSh mKs ad dc D A s σ H locs) : W p l e RmX6_chooseCell s m args below meth c H locs 0 0 Q (F0 m 22 ls []) := by
  have hx := C0.1
  have hb := C0.2.1
  unfold fX6_chooseCell_22 at h
  obtain ⟨ex, h1, h⟩ := bn1_e h
  refine lX6_chooseCell_22 C0 a1 a3   FU a2 a4 σ ex h1 ?_ H locs ls hl G
  · intro b2 σ' hv H locs ls hl G
    rw [hv] at h
    have h : (letB (a3 + 1) (fun x1 => some (.inr (b2, x1, σ')))) = some o := h
    obtain ⟨x1, e_x1⟩ : ∃ z : Int32, z = a3 + 1 := ⟨_, rfl⟩
    have h := letB_e h e_x1
    refine lv_iinc (v := x1) (lv' := [(3, .int x1), (0, .ref (ad 0)), (1, .int a1), (2, .int b2)]) hx hb dX6_chooseCell_78 hl (k := 3) rfl ((congrArg (fun z => a3 + z) (show Int32.ofInt 1 = 1 by decide)).trans e_x1.symm) (by decide) rfl (fun ls hl => ?_)
    refine lv_goto (tgt := 4) hx hb dX6_chooseCell_81 (by decide) ?_
    cases h
    exact Kb b2 x1 (σ') rfl _ _ _ (lv_sub hl [1, 2, 3, 0] rfl) G
set_option maxHeartbeats 400000 in
theorem wbX6_chooseCell_129 (C0 : Cx ad dc D RX6 cX6_chooseCell 5 p s m args meth c) (a1 : Int32) (a2 : Int32) (a3 : Int32) (a4 : Int32) (σ : St)  (o : (St) ⊕ (Int32 × St)) (h : bX6_chooseCell_129 a1 a2 a3 a4 σ = some o) (Kb : ∀ (b4 : Int32) (σ' : St), o = .inr (b4, σ') → ∀ (H : Heap) (locs : List Loc) (ls : Array Slot), lv_has ls 5 [(0, .ref (ad 0)), (1, .int a1), (2, .int a2), (3, .int a3), (4, .int b4)] → GW mSh mKs ad dc D A s σ' H locs → W p l e RmX6_chooseCell s m args below meth c H locs 0 0 Q (F0 m 129 ls [])) (Ke0 : ∀  (σ' : St), o = .inl (σ') → ∀ (H : Heap) (locs : List Loc) (ls : Array Slot), lv_has ls 5 [(0, .ref (ad 0)), (1, .int a1), (2, .int a2), (3, .int a3)] → GW mSh mKs ad dc D A s σ' H locs → W p l e RmX6_chooseCell s m args below meth c H locs 0 0 Q (F0 m 190 ls [])) (H : Heap) (locs : List Loc) (ls : Array Slot) (hl : lv_has ls 5 [(0, .ref (ad 0)), (1, .int a1), (2, .int a2), (3, .int a3), (4, .int a4)]) (G : GW mSh mKs ad dc D A s σ H locs) : W p l e RmX6_chooseCell s m args below meth c H locs 0 0 Q (F0 m 129 ls []) := by
  have hx := C0.1
  have hb := C0.2.1
  unfold bX6_chooseCell_129 at h
  refine lv_iload hx hb dX6_chooseCell_129 (lv_at hl 4 rfl) ?_
  refine lv_aload_n hx hb dX6_chooseCell_131 rfl (lv_at hl 0 rfl) ?_
  refine m_getI C0 G 58 (by decide) rfl q1572 dX6_chooseCell_132 ?_
  refine lv_icmp_ge (tgt := 190) hx hb dX6_chooseCell_135 (by decide) (fun c1 => ?_) (fun c1 => ?_)
  · have h := ite_t h c1
    cases h
    exact Ke0 (σ) rfl _ _ _ (lv_sub hl [0, 1, 2, 3] rfl) G
  · have h := ite_f h c1
    refine lv_aload_n hx hb dX6_chooseCell_138 rfl (lv_at hl 0 rfl) ?_
    refine m_getC C0 G 53 (by decide) rfl q1567 dX6_chooseCell_139 ?_
    refine lv_aload_n hx hb dX6_chooseCell_142 rfl (lv_at hl 0 rfl) ?_
    refine m_getC C0 G 57 (by decide) rfl q1571 dX6_chooseCell_143 ?_
    refine lv_iload hx hb dX6_chooseCell_146 (lv_at hl 4 rfl) ?_
    obtain ⟨b_2, h⟩ := ckB_e h
    refine g_iald C0 G (n := 59049) (by decide) rfl b_2 dX6_chooseCell_148 ?_
    refine lv_topi (fun x3 e_x3 => ?_)
    have h := letB_e h e_x3
    refine lv_dup2_11 hx hb dX6_chooseCell_149 rfl rfl ?_
    obtain ⟨b_4, h⟩ := ckB_e h
    refine g_iald C0 G (n := 59049) (by decide) rfl b_4 dX6_chooseCell_150 ?_
    refine lv_aload_n hx hb dX6_chooseCell_151 rfl (lv_at hl 0 rfl) ?_
    refine m_getC C0 G 52 (by decide) rfl q1566 dX6_chooseCell_152 ?_
    refine lv_aload_n hx hb dX6_chooseCell_155 rfl (lv_at hl 0 rfl) ?_
    refine m_getC C0 G 57 (by decide) rfl q1571 dX6_chooseCell_156 ?_
    refine lv_iload hx hb dX6_chooseCell_159 (lv_at hl 4 rfl) ?_
    obtain ⟨b_5, h⟩ := ckB_e h
    refine g_iald C0 G (n := 59049) (by decide) rfl b_5 dX6_chooseCell_161 ?_
    obtain ⟨b_6, h⟩ := ckB_e h
    refine g_iald C0 G (n := 59049) (by decide) rfl b_6 dX6_chooseCell_162 ?_
    refine lv_iload_n hx hb dX6_chooseCell_163 rfl (lv_at hl 1 rfl) ?_
    refine lv_iconst (v := 1) hx hb dX6_chooseCell_164 (by decide +kernel) ?_
    refine lv_iadd hx hb dX6_chooseCell_165 ?_
    refine lv_ishr hx hb dX6_chooseCell_166 ?_
    refine lv_iconst (v := 1) hx hb dX6_chooseCell_167 (by decide +kernel) ?_
    refine lv_iand hx hb dX6_chooseCell_168 ?_
    refine lv_iconst (v := 1) hx hb dX6_chooseCell_169 (by decide +kernel) ?_
    refine lv_icmp_ne (tgt := 181) hx hb dX6_chooseCell_170 (by decide) (fun c7 => ?_) (fun c7 => ?_)
    · have h := ite_f h c7
      refine lv_iconst (v := 0) hx hb dX6_chooseCell_181 (by decide +kernel) ?_
      refine lv_ior hx hb dX6_chooseCell_182 ?_
      obtain ⟨b_8, h⟩ := ckB_e h
      refine g_iast C0 G (n := 59049) (by decide) rfl b_8 dX6_chooseCell_183 (fun σ9 H locs e_σ9 G => ?_)
      have h := letB_e h e_σ9
      obtain ⟨x10, e_x10⟩ : ∃ z : Int32, z = a4 + 1 := ⟨_, rfl⟩
      have h := letB_e h e_x10
      refine lv_iinc (v := x10) (lv' := [(4, .int x10), (0, .ref (ad 0)), (1, .int a1), (2, .int a2), (3, .int a3)]) hx hb dX6_chooseCell_184 hl (k := 4) rfl ((congrArg (fun z => a4 + z) (show Int32.ofInt 1 = 1 by decide)).trans e_x10.symm) (by decide) rfl (fun ls hl => ?_)
      refine lv_goto (tgt := 129) hx hb dX6_chooseCell_187 (by decide) ?_
      cases h
      exact Kb x10 (σ9) rfl _ _ _ (lv_sub hl [1, 2, 3, 4, 0] rfl) G
    · have h := ite_t h c7
      refine lv_iconst (v := 1) hx hb dX6_chooseCell_173 (by decide +kernel) ?_
      refine lv_iload_n hx hb dX6_chooseCell_174 rfl (lv_at hl 1 rfl) ?_
      refine lv_iconst (v := 1) hx hb dX6_chooseCell_175 (by decide +kernel) ?_
      refine lv_iadd hx hb dX6_chooseCell_176 ?_
      refine lv_ishl hx hb dX6_chooseCell_177 ?_
      refine lv_goto (tgt := 182) hx hb dX6_chooseCell_178 (by decide) ?_
      refine lv_ior hx hb dX6_chooseCell_182 ?_
      obtain ⟨b_11, h⟩ := ckB_e h
      refine g_iast C0 G (n := 59049) (by decide) rfl b_11 dX6_chooseCell_183 (fun σ12 H locs e_σ12 G => ?_)
      have h := letB_e h e_σ12
      obtain ⟨x13, e_x13⟩ : ∃ z : Int32, z = a4 + 1 := ⟨_, rfl⟩
      have h := letB_e h e_x13
      refine lv_iinc (v := x13) (lv' := [(4, .int x13), (0, .ref (ad 0)), (1, .int a1), (2, .int a2), (3, .int a3)]) hx hb dX6_chooseCell_184 hl (k := 4) rfl ((congrArg (fun z => a4 + z) (show Int32.ofInt 1 = 1 by decide)).trans e_x13.symm) (by decide) rfl (fun ls hl => ?_)
      refine lv_goto (tgt := 129) hx hb dX6_chooseCell_187 (by decide) ?_
      cases h
      exact Kb x13 (σ12) rfl _ _ _ (lv_sub hl [1, 2, 3, 4, 0] rfl) G
set_option maxHeartbeats 400000 in
theorem lX6_chooseCell_129 (C0 : Cx ad dc D RX6 cX6_chooseCell 5 p s m args meth c) (a1 : Int32) (a2 : Int32) (a3 : Int32)   : ∀ (n : Nat) (a4 : Int32) (σ : St) (ex : St) (h : iter (fun v : Int32 × St => bX6_chooseCell_129 a1 a2 a3 v.1 v.2) n (a4, σ) = some ex) (Ke0 : ∀  (σ' : St), ex = σ' → ∀ (H : Heap) (locs : List Loc) (ls : Array Slot), lv_has ls 5 [(0, .ref (ad 0)), (1, .int a1), (2, .int a2), (3, .int a3)] → GW mSh mKs ad dc D A s σ' H locs → W p l e RmX6_chooseCell s m args below meth c H locs 0 0 Q (F0 m 190 ls [])) (H : Heap) (locs : List Loc) (ls : Array Slot) (hl : lv_has ls 5 [(0, .ref (ad 0)), (1, .int a1), (2, .int a2), (3, .int a3), (4, .int a4)]) (G : GW mSh mKs ad dc D A s σ H locs), W p l e RmX6_chooseCell s m args below meth c H locs 0 0 Q (F0 m 129 ls []) := by
  intro n
  induction n with
  | zero =>
    intro a4 σ ex h
    cases h
  | succ n ih =>
    intro a4 σ ex h Ke0 H locs ls hl G
    obtain ⟨r, hb1, hr⟩ := iter_e h
    refine wbX6_chooseCell_129 C0 a1 a2 a3 a4 σ  r hb1 ?_ ?_ H locs ls hl G
    · intro b4 σ' hv H locs ls hl G
      subst hv
      rcases hr with hr | ⟨a', hr, h2⟩
      · cases hr
      · rw [← Sum.inr.inj hr] at h2
        exact ih b4 σ' ex h2 Ke0 H locs ls hl G
    · intro σ' hv H locs ls hl G
      subst hv
      rcases hr with hr | ⟨a', hr, h2⟩
      · exact Ke0 σ' (Sum.inl.inj hr).symm H locs ls hl G
      · cases hr
set_option maxHeartbeats 400000 in
theorem wX6_chooseCell_129 (C0 : Cx ad dc D RX6 cX6_chooseCell 5 p s m args meth c) (a1 : Int32) (a2 : Int32) (a3 : Int32) (a4 : Int32) (σ : St)  (o : (St) ⊕ (Int32 × St)) (h : fX6_chooseCell_129 a1 a2 a3 a4 σ = some o) (Kb : ∀ (b3 : Int32) (σ' : St), o = .inr (b3, σ') → ∀ (H : Heap) (locs : List Loc) (ls : Array Slot), lv_has ls 5 [(0, .ref (ad 0)), (1, .int a1), (2, .int a2), (3, .int b3)] → GW mSh mKs ad dc D A s σ' H locs → W p l e RmX6_chooseCell s m args below meth c H locs 0 0 Q (F0 m 93 ls [])) (Ke0 : ∀  (σ' : St), o = .inl (σ') → ∀ (H : Heap) (locs : List Loc) (ls : Array Slot), lv_has ls 5 [] → GW mSh mKs ad dc D A s σ' H locs → W p l e RmX6_chooseCell s m args below meth c H locs 0 0 Q (F0 m 196 ls [])) (H : Heap) (locs : List Loc) (ls : Array Slot) (hl : lv_has ls 5 [(0, .ref (ad 0)), (1, .int a1), (2, .int a2), (3, .int a3), (4, .int a4)]) (G : GW mSh mKs ad dc D A s σ H locs) : W p l e RmX6_chooseCell s m args below meth c H locs 0 0 Q (F0 m 129 ls []) := by
  have hx := C0.1
  have hb := C0.2.1
  unfold fX6_chooseCell_129 at h
  obtain ⟨ex, h1, h⟩ := bn1_e h
  refine lX6_chooseCell_129 C0 a1 a2 a3   FU a4 σ ex h1 ?_ H locs ls hl G
  · intro σ' hv H locs ls hl G
    rw [hv] at h
    have h : (letB (a3 + 1) (fun x1 => some (.inr (x1, σ')))) = some o := h
    obtain ⟨x1, e_x1⟩ : ∃ z : Int32, z = a3 + 1 := ⟨_, rfl⟩
    have h := letB_e h e_x1
    refine lv_iinc (v := x1) (lv' := [(3, .int x1), (0, .ref (ad 0)), (1, .int a1), (2, .int a2)]) hx hb dX6_chooseCell_190 hl (k := 3) rfl ((congrArg (fun z => a3 + z) (show Int32.ofInt 1 = 1 by decide)).trans e_x1.symm) (by decide) rfl (fun ls hl => ?_)
    refine lv_goto (tgt := 93) hx hb dX6_chooseCell_193 (by decide) ?_
    cases h
    exact Kb x1 (σ') rfl _ _ _ (lv_sub hl [1, 2, 3, 0] rfl) G
set_option maxHeartbeats 400000 in
theorem wbX6_chooseCell_93 (C0 : Cx ad dc D RX6 cX6_chooseCell 5 p s m args meth c) (a1 : Int32) (a2 : Int32) (a3 : Int32) (σ : St)  (o : (St) ⊕ (Int32 × St)) (h : bX6_chooseCell_93 a1 a2 a3 σ = some o) (Kb : ∀ (b3 : Int32) (σ' : St), o = .inr (b3, σ') → ∀ (H : Heap) (locs : List Loc) (ls : Array Slot), lv_has ls 5 [(0, .ref (ad 0)), (1, .int a1), (2, .int a2), (3, .int b3)] → GW mSh mKs ad dc D A s σ' H locs → W p l e RmX6_chooseCell s m args below meth c H locs 0 0 Q (F0 m 93 ls [])) (Ke0 : ∀  (σ' : St), o = .inl (σ') → ∀ (H : Heap) (locs : List Loc) (ls : Array Slot), lv_has ls 5 [] → GW mSh mKs ad dc D A s σ' H locs → W p l e RmX6_chooseCell s m args below meth c H locs 0 0 Q (F0 m 196 ls [])) (H : Heap) (locs : List Loc) (ls : Array Slot) (hl : lv_has ls 5 [(0, .ref (ad 0)), (1, .int a1), (2, .int a2), (3, .int a3)]) (G : GW mSh mKs ad dc D A s σ H locs) : W p l e RmX6_chooseCell s m args below meth c H locs 0 0 Q (F0 m 93 ls []) := by
  have hx := C0.1
  have hb := C0.2.1
  unfold bX6_chooseCell_93 at h
  refine lv_iload_n hx hb dX6_chooseCell_93 rfl (lv_at hl 3 rfl) ?_
  refine lv_ldc hx hb C0.2.2.2.1 (C0.2.2.2.2.1 _ q1513) dX6_chooseCell_94 ?_
  refine lv_icmp_ge (tgt := 196) hx hb dX6_chooseCell_96 (by decide) (fun c1 => ?_) (fun c1 => ?_)
  · have h := ite_t h c1
    cases h
    exact Ke0 (σ) rfl _ _ _ (lv_sub hl [] rfl) G
  · have h := ite_f h c1
    refine lv_aload_n hx hb dX6_chooseCell_99 rfl (lv_at hl 0 rfl) ?_
    refine m_getC C0 G 53 (by decide) rfl q1567 dX6_chooseCell_100 ?_
    refine lv_iload_n hx hb dX6_chooseCell_103 rfl (lv_at hl 3 rfl) ?_
    obtain ⟨b_2, h⟩ := ckB_e h
    refine g_iald C0 G (n := 59049) (by decide) rfl b_2 dX6_chooseCell_104 ?_
    refine lv_iload_n hx hb dX6_chooseCell_105 rfl (lv_at hl 1 rfl) ?_
    refine lv_ishr hx hb dX6_chooseCell_106 ?_
    refine lv_iconst (v := 1) hx hb dX6_chooseCell_107 (by decide +kernel) ?_
    refine lv_iand hx hb dX6_chooseCell_108 ?_
    refine lv_iconst (v := 1) hx hb dX6_chooseCell_109 (by decide +kernel) ?_
    refine lv_icmp_ne (tgt := 190) hx hb dX6_chooseCell_110 (by decide) (fun c3 => ?_) (fun c3 => ?_)
    · have h := ite_f h c3
      obtain ⟨x4, e_x4⟩ : ∃ z : Int32, z = a3 + 1 := ⟨_, rfl⟩
      have h := letB_e h e_x4
      refine lv_iinc (v := x4) (lv' := [(3, .int x4), (0, .ref (ad 0)), (1, .int a1), (2, .int a2)]) hx hb dX6_chooseCell_190 hl (k := 3) rfl ((congrArg (fun z => a3 + z) (show Int32.ofInt 1 = 1 by decide)).trans e_x4.symm) (by decide) rfl (fun ls hl => ?_)
      refine lv_goto (tgt := 93) hx hb dX6_chooseCell_193 (by decide) ?_
      cases h
      exact Kb x4 (σ) rfl _ _ _ (lv_sub hl [1, 2, 3, 0] rfl) G
    · have h := ite_t h c3
      refine lv_aload_n hx hb dX6_chooseCell_113 rfl (lv_at hl 0 rfl) ?_
      refine lv_iload_n hx hb dX6_chooseCell_114 rfl (lv_at hl 3 rfl) ?_
      refine lv_iload_n hx hb dX6_chooseCell_115 rfl (lv_at hl 2 rfl) ?_
      refine lv_aload_n hx hb dX6_chooseCell_116 rfl (lv_at hl 0 rfl) ?_
      refine m_getC C0 G 3 (by decide) rfl q1517 dX6_chooseCell_117 ?_
      refine lv_bipush (v := 10) hx hb dX6_chooseCell_120 (by decide +kernel) ?_
      obtain ⟨b_5, h⟩ := ckB_e h
      refine g_iald C0 G (n := 8060) (by decide) rfl b_5 dX6_chooseCell_122 ?_
      obtain ⟨σ7, h_r6, h⟩ := bn1_e h
      refine g_callVv (rest := []) C0 G hl (ci := 6) rfl (by decide) rfl (kX6_findSpread (l := l) C0.2.2.2.2.2.2.1 G.2.2.2 h_r6) (cwV 3 C0.2.2.2.2.1 (lw_V q2039 q2041 qs93 q114 q2042) rfl rfl rfl hdX6_findSpread ⟨Nat.le_of_ble_eq_true rfl, Nat.le_of_ble_eq_true rfl⟩) rfl (Nat.le_of_ble_eq_true rfl) dX6_chooseCell_123 ⟨Nat.zero_le _, Nat.zero_le _⟩ (fun H locs G => ?_)
      refine lv_iconst (v := 0) hx hb dX6_chooseCell_126 (by decide +kernel) ?_
      refine lv_istore (lv' := [(4, .int 0), (0, .ref (ad 0)), (1, .int a1), (2, .int a2), (3, .int a3)]) hx hb dX6_chooseCell_127 hl (by decide) rfl (fun ls hl => ?_)
      exact wX6_chooseCell_129 C0 a1 a2 a3 0 (σ7)  _ h Kb Ke0 _ _ _ (lv_sub hl [1, 2, 3, 4, 0] rfl) G
set_option maxHeartbeats 400000 in
theorem lX6_chooseCell_93 (C0 : Cx ad dc D RX6 cX6_chooseCell 5 p s m args meth c) (a1 : Int32) (a2 : Int32)   : ∀ (n : Nat) (a3 : Int32) (σ : St) (ex : St) (h : iter (fun v : Int32 × St => bX6_chooseCell_93 a1 a2 v.1 v.2) n (a3, σ) = some ex) (Ke0 : ∀  (σ' : St), ex = σ' → ∀ (H : Heap) (locs : List Loc) (ls : Array Slot), lv_has ls 5 [] → GW mSh mKs ad dc D A s σ' H locs → W p l e RmX6_chooseCell s m args below meth c H locs 0 0 Q (F0 m 196 ls [])) (H : Heap) (locs : List Loc) (ls : Array Slot) (hl : lv_has ls 5 [(0, .ref (ad 0)), (1, .int a1), (2, .int a2), (3, .int a3)]) (G : GW mSh mKs ad dc D A s σ H locs), W p l e RmX6_chooseCell s m args below meth c H locs 0 0 Q (F0 m 93 ls []) := by
  intro n
  induction n with
  | zero =>
    intro a3 σ ex h
    cases h
  | succ n ih =>
    intro a3 σ ex h Ke0 H locs ls hl G
    obtain ⟨r, hb1, hr⟩ := iter_e h
    refine wbX6_chooseCell_93 C0 a1 a2 a3 σ  r hb1 ?_ ?_ H locs ls hl G
    · intro b3 σ' hv H locs ls hl G
      subst hv
      rcases hr with hr | ⟨a', hr, h2⟩
      · cases hr
      · rw [← Sum.inr.inj hr] at h2
        exact ih b3 σ' ex h2 Ke0 H locs ls hl G
    · intro σ' hv H locs ls hl G
      subst hv
      rcases hr with hr | ⟨a', hr, h2⟩
      · exact Ke0 σ' (Sum.inl.inj hr).symm H locs ls hl G
      · cases hr
set_option maxHeartbeats 400000 in
theorem wX6_chooseCell_93 (C0 : Cx ad dc D RX6 cX6_chooseCell 5 p s m args meth c) (a1 : Int32) (a2 : Int32) (a3 : Int32) (σ : St)  (o : St) (h : fX6_chooseCell_93 a1 a2 a3 σ = some o) (Kr : KrV p l e RmX6_chooseCell s m args below meth c cX6_chooseCell Q (GW mSh mKs ad dc D A s o)) (H : Heap) (locs : List Loc) (ls : Array Slot) (hl : lv_has ls 5 [(0, .ref (ad 0)), (1, .int a1), (2, .int a2), (3, .int a3)]) (G : GW mSh mKs ad dc D A s σ H locs) : W p l e RmX6_chooseCell s m args below meth c H locs 0 0 Q (F0 m 93 ls []) := by
  have hx := C0.1
  have hb := C0.2.1
  unfold fX6_chooseCell_93 at h
  obtain ⟨ex, h1, h⟩ := bn1_e h
  refine lX6_chooseCell_93 C0 a1 a2   FU a3 σ ex h1 ?_ H locs ls hl G
  · intro σ' hv H locs ls hl G
    rw [hv] at h
    have h : (some σ') = some o := h
    cases h
    exact Kr _ _ _ _ dX6_chooseCell_196 G
set_option maxHeartbeats 400000 in
theorem wX6_chooseCell_84 (C0 : Cx ad dc D RX6 cX6_chooseCell 5 p s m args meth c) (a1 : Int32) (a2 : Int32) (σ : St)  (o : St) (h : fX6_chooseCell_84 a1 a2 σ = some o) (Kr : KrV p l e RmX6_chooseCell s m args below meth c cX6_chooseCell Q (GW mSh mKs ad dc D A s o)) (H : Heap) (locs : List Loc) (ls : Array Slot) (hl : lv_has ls 5 [(0, .ref (ad 0)), (1, .int a1), (2, .int a2)]) (G : GW mSh mKs ad dc D A s σ H locs) : W p l e RmX6_chooseCell s m args below meth c H locs 0 0 Q (F0 m 84 ls []) := by
  have hx := C0.1
  have hb := C0.2.1
  unfold fX6_chooseCell_84 at h
  refine lv_aload_n hx hb dX6_chooseCell_84 rfl (lv_at hl 0 rfl) ?_
  refine m_getC C0 G 61 (by decide) rfl q1575 dX6_chooseCell_85 ?_
  refine lv_iload_n hx hb dX6_chooseCell_88 rfl (lv_at hl 1 rfl) ?_
  refine lv_iload_n hx hb dX6_chooseCell_89 rfl (lv_at hl 2 rfl) ?_
  obtain ⟨b_1, h⟩ := ckB_e h
  refine g_iast C0 G (n := 7) (by decide) rfl b_1 dX6_chooseCell_90 (fun σ2 H locs e_σ2 G => ?_)
  have h := letB_e h e_σ2
  refine lv_iconst (v := 0) hx hb dX6_chooseCell_91 (by decide +kernel) ?_
  refine lv_istore_n (lv' := [(3, .int 0), (0, .ref (ad 0)), (1, .int a1), (2, .int a2)]) hx hb dX6_chooseCell_92 rfl hl (by decide) rfl (fun ls hl => ?_)
  exact wX6_chooseCell_93 C0 a1 a2 0 (σ2)  _ h Kr _ _ _ (lv_sub hl [1, 2, 3, 0] rfl) G
set_option maxHeartbeats 400000 in
theorem wbX6_chooseCell_4 (C0 : Cx ad dc D RX6 cX6_chooseCell 5 p s m args meth c) (a1 : Int32) (a2 : Int32) (a3 : Int32) (σ : St)  (o : (Int32 × St) ⊕ (Int32 × Int32 × St)) (h : bX6_chooseCell_4 a1 a2 a3 σ = some o) (Kb : ∀ (b2 : Int32) (b3 : Int32) (σ' : St), o = .inr (b2, b3, σ') → ∀ (H : Heap) (locs : List Loc) (ls : Array Slot), lv_has ls 5 [(0, .ref (ad 0)), (1, .int a1), (2, .int b2), (3, .int b3)] → GW mSh mKs ad dc D A s σ' H locs → W p l e RmX6_chooseCell s m args below meth c H locs 0 0 Q (F0 m 4 ls [])) (Ke0 : ∀ (b2 : Int32) (σ' : St), o = .inl (b2, σ') → ∀ (H : Heap) (locs : List Loc) (ls : Array Slot), lv_has ls 5 [(0, .ref (ad 0)), (1, .int a1), (2, .int b2)] → GW mSh mKs ad dc D A s σ' H locs → W p l e RmX6_chooseCell s m args below meth c H locs 0 0 Q (F0 m 84 ls [])) (H : Heap) (locs : List Loc) (ls : Array Slot) (hl : lv_has ls 5 [(0, .ref (ad 0)), (1, .int a1), (2, .int a2), (3, .int a3)]) (G : GW mSh mKs ad dc D A s σ H locs) : W p l e RmX6_chooseCell s m args below meth c H locs 0 0 Q (F0 m 4 ls []) := by
  have hx := C0.1
  have hb := C0.2.1
  unfold bX6_chooseCell_4 at h
  refine lv_iload_n hx hb dX6_chooseCell_4 rfl (lv_at hl 3 rfl) ?_
  refine lv_aload_n hx hb dX6_chooseCell_5 rfl (lv_at hl 0 rfl) ?_
  refine m_getC C0 G 3 (by decide) rfl q1517 dX6_chooseCell_6 ?_
  refine lv_iconst (v := 0) hx hb dX6_chooseCell_9 (by decide +kernel) ?_
  obtain ⟨b_1, h⟩ := ckB_e h
  refine g_iald C0 G (n := 8060) (by decide) rfl b_1 dX6_chooseCell_10 ?_
  refine lv_icmp_ge (tgt := 84) hx hb dX6_chooseCell_11 (by decide) (fun c2 => ?_) (fun c2 => ?_)
  · have h := ite_t h c2
    cases h
    exact Ke0 a2 (σ) rfl _ _ _ (lv_sub hl [0, 1, 2] rfl) G
  · have h := ite_f h c2
    refine lv_iload_n hx hb dX6_chooseCell_14 rfl (lv_at hl 2 rfl) ?_
    refine lv_iconst (v := (-1)) hx hb dX6_chooseCell_15 (by decide +kernel) ?_
    refine lv_icmp_ne (tgt := 84) hx hb dX6_chooseCell_16 (by decide) (fun c3 => ?_) (fun c3 => ?_)
    · have h := ite_f h c3
      cases h
      exact Ke0 a2 (σ) rfl _ _ _ (lv_sub hl [0, 1, 2] rfl) G
    · have h := ite_t h c3
      refine lv_iconst (v := 0) hx hb dX6_chooseCell_19 (by decide +kernel) ?_
      refine lv_istore (lv' := [(4, .int 0), (0, .ref (ad 0)), (1, .int a1), (2, .int a2), (3, .int a3)]) hx hb dX6_chooseCell_20 hl (by decide) rfl (fun ls hl => ?_)
      exact wX6_chooseCell_22 C0 a1 a2 a3 0 (σ)  _ h Kb Ke0 _ _ _ (lv_sub hl [1, 2, 3, 4, 0] rfl) G
set_option maxHeartbeats 400000 in
theorem lX6_chooseCell_4 (C0 : Cx ad dc D RX6 cX6_chooseCell 5 p s m args meth c) (a1 : Int32)   : ∀ (n : Nat) (a2 : Int32) (a3 : Int32) (σ : St) (ex : Int32 × St) (h : iter (fun v : Int32 × Int32 × St => bX6_chooseCell_4 a1 v.1 v.2.1 v.2.2) n (a2, a3, σ) = some ex) (Ke0 : ∀ (b2 : Int32) (σ' : St), ex = (b2, σ') → ∀ (H : Heap) (locs : List Loc) (ls : Array Slot), lv_has ls 5 [(0, .ref (ad 0)), (1, .int a1), (2, .int b2)] → GW mSh mKs ad dc D A s σ' H locs → W p l e RmX6_chooseCell s m args below meth c H locs 0 0 Q (F0 m 84 ls [])) (H : Heap) (locs : List Loc) (ls : Array Slot) (hl : lv_has ls 5 [(0, .ref (ad 0)), (1, .int a1), (2, .int a2), (3, .int a3)]) (G : GW mSh mKs ad dc D A s σ H locs), W p l e RmX6_chooseCell s m args below meth c H locs 0 0 Q (F0 m 4 ls []) := by
  intro n
  induction n with
  | zero =>
    intro a2 a3 σ ex h
    cases h
  | succ n ih =>
    intro a2 a3 σ ex h Ke0 H locs ls hl G
    obtain ⟨r, hb1, hr⟩ := iter_e h
    refine wbX6_chooseCell_4 C0 a1 a2 a3 σ  r hb1 ?_ ?_ H locs ls hl G
    · intro b2 b3 σ' hv H locs ls hl G
      subst hv
      rcases hr with hr | ⟨a', hr, h2⟩
      · cases hr
      · rw [← Sum.inr.inj hr] at h2
        exact ih b2 b3 σ' ex h2 Ke0 H locs ls hl G
    · intro b2 σ' hv H locs ls hl G
      subst hv
      rcases hr with hr | ⟨a', hr, h2⟩
      · exact Ke0 b2 σ' (Sum.inl.inj hr).symm H locs ls hl G
      · cases hr
set_option maxHeartbeats 400000 in
theorem wX6_chooseCell_4 (C0 : Cx ad dc D RX6 cX6_chooseCell 5 p s m args meth c) (a1 : Int32) (a2 : Int32) (a3 : Int32) (σ : St)  (o : St) (h : fX6_chooseCell_4 a1 a2 a3 σ = some o) (Kr : KrV p l e RmX6_chooseCell s m args below meth c cX6_chooseCell Q (GW mSh mKs ad dc D A s o)) (H : Heap) (locs : List Loc) (ls : Array Slot) (hl : lv_has ls 5 [(0, .ref (ad 0)), (1, .int a1), (2, .int a2), (3, .int a3)]) (G : GW mSh mKs ad dc D A s σ H locs) : W p l e RmX6_chooseCell s m args below meth c H locs 0 0 Q (F0 m 4 ls []) := by
  have hx := C0.1
  have hb := C0.2.1
  unfold fX6_chooseCell_4 at h
  obtain ⟨ex, h1, h⟩ := bn1_e h
  refine lX6_chooseCell_4 C0 a1   FU a2 a3 σ ex h1 ?_ H locs ls hl G
  · intro b2 σ' hv H locs ls hl G
    rw [hv] at h
    have h : (fX6_chooseCell_84 a1 b2 (σ')) = some o := h
    exact wX6_chooseCell_84 C0 a1 b2 (σ')  _ h Kr _ _ _ hl G
set_option maxHeartbeats 400000 in
theorem wX6_chooseCell_0 (C0 : Cx ad dc D RX6 cX6_chooseCell 5 p s m args meth c) (a1 : Int32) (σ : St)  (o : St) (h : fX6_chooseCell a1 σ = some o) (Kr : KrV p l e RmX6_chooseCell s m args below meth c cX6_chooseCell Q (GW mSh mKs ad dc D A s o)) (H : Heap) (locs : List Loc) (ls : Array Slot) (hl : lv_has ls 5 [(0, .ref (ad 0)), (1, .int a1)]) (G : GW mSh mKs ad dc D A s σ H locs) : W p l e RmX6_chooseCell s m args below meth c H locs 0 0 Q (F0 m 0 ls []) := by
  have hx := C0.1
  have hb := C0.2.1
  unfold fX6_chooseCell at h
  refine lv_iconst (v := (-1)) hx hb dX6_chooseCell_0 (by decide +kernel) ?_
  refine lv_istore_n (lv' := [(2, .int (-1)), (0, .ref (ad 0)), (1, .int a1)]) hx hb dX6_chooseCell_1 rfl hl (by decide) rfl (fun ls hl => ?_)
  refine lv_iconst (v := 0) hx hb dX6_chooseCell_2 (by decide +kernel) ?_
  refine lv_istore_n (lv' := [(3, .int 0), (2, .int (-1)), (0, .ref (ad 0)), (1, .int a1)]) hx hb dX6_chooseCell_3 rfl hl (by decide) rfl (fun ls hl => ?_)
  exact wX6_chooseCell_4 C0 a1 (-1) 0 (σ)  _ h Kr _ _ _ (lv_sub hl [2, 3, 1, 0] rfl) G
theorem kX6_chooseCell {l : Launch} {ad : Nat → Nat} {dc : Nat → ClassId} {D : va_G} {A : Nat → Prop}  (hi : ∀ i j, ad i = ad j → i = j) (hA : ∀ k, k ∈ mKs → A (ad k)) {σ : St} {a1 : Int32}  {σ' : St}  (h : fX6_chooseCell a1 σ = some (σ')) : Met l yX6_chooseCell (ws_ yX6_chooseCell cX6_chooseCell 5 none) RmX6_chooseCell (gPc mSh mKs ad dc D σ [.ref (ad 0), .int a1]) (gQv mSh mKs ad dc D A σ') 0 0 A :=
  g_metV (by decide) rfl hi mKs_nd hA (Nat.le_of_ble_eq_true rfl) (fun p e s m below meth c Q C0 Kr ls hl G => wX6_chooseCell_0 C0 a1 σ  (σ') h Kr _ _ ls hl G)
-- X6_leads_c22
abbrev RmX6_leads_c22 : Room := { frames := 4, cells := 0, slots := 0, locals := 100 }
theorem hdX6_leads_c22 : yX6_leads.cls = RX6 ∧ yX6_leads.cls ≠ "java/lang/invoke/MethodHandle" ∧ yX6_leads.cls ≠ "java/lang/invoke/VarHandle" ∧ (parseMethodDescriptor yX6_leads.desc).map (fun d => d.parameters.length) = some 4 := by decide +kernel
set_option maxHeartbeats 400000 in
theorem wX6_leads_c22_51 (C0 : Cx ad dc D RX6 cX6_leads 7 p s m args meth c) (a4 : Int32) (a6 : Int32) (σ : St)  (o : (Int32) ⊕ (Int32 × Int32)) (h : fX6_leads_c22_51 a4 a6 σ = some o) (Kb : ∀ (b5 : Int32) (b6 : Int32), o = .inr (b5, b6) → ∀ (H : Heap) (locs : List Loc) (ls : Array Slot), lv_has ls 7 [(0, .ref (ad 0)), (3, .ref (ad 22)), (4, .int a4), (5, .int b5), (6, .int b6)] → GW mSh mKs ad dc D A s σ H locs → W p l e RmX6_leads_c22 s m args below meth c H locs 0 0 Q (F0 m 19 ls [])) (Ke0 : ∀ (b5 : Int32), o = .inl b5 → ∀ (H : Heap) (locs : List Loc) (ls : Array Slot), lv_has ls 7 [(5, .int b5)] → GW mSh mKs ad dc D A s σ H locs → W p l e RmX6_leads_c22 s m args below meth c H locs 0 0 Q (F0 m 64 ls [])) (H : Heap) (locs : List Loc) (ls : Array Slot) (hl : lv_has ls 7 [(0, .ref (ad 0)), (3, .ref (ad 22)), (4, .int a4), (6, .int a6)]) (G : GW mSh mKs ad dc D A s σ H locs) : W p l e RmX6_leads_c22 s m args below meth c H locs 0 0 Q (F0 m 51 ls []) := by
  have hx := C0.1
  have hb := C0.2.1
  unfold fX6_leads_c22_51 at h
  refine lv_iconst (v := 1) hx hb dX6_leads_51 (by decide +kernel) ?_
  refine lv_goto (tgt := 56) hx hb dX6_leads_52 (by decide) ?_
  refine lv_istore (lv' := [(5, .int 1), (0, .ref (ad 0)), (3, .ref (ad 22)), (4, .int a4), (6, .int a6)]) hx hb dX6_leads_56 hl (by decide) rfl (fun ls hl => ?_)
  obtain ⟨x1, e_x1⟩ : ∃ z : Int32, z = a6 + 1 := ⟨_, rfl⟩
  have h := letB_e h e_x1
  refine lv_iinc (v := x1) (lv' := [(6, .int x1), (5, .int 1), (0, .ref (ad 0)), (3, .ref (ad 22)), (4, .int a4)]) hx hb dX6_leads_58 hl (k := 4) rfl ((congrArg (fun z => a6 + z) (show Int32.ofInt 1 = 1 by decide)).trans e_x1.symm) (by decide) rfl (fun ls hl => ?_)
  refine lv_goto (tgt := 19) hx hb dX6_leads_61 (by decide) ?_
  cases h
  exact Kb 1 x1 rfl _ _ _ (lv_sub hl [2, 3, 4, 1, 0] rfl) G
set_option maxHeartbeats 400000 in
theorem wbX6_leads_c22_19 (C0 : Cx ad dc D RX6 cX6_leads 7 p s m args meth c) (a4 : Int32) (a5 : Int32) (a6 : Int32) (σ : St)  (o : (Int32) ⊕ (Int32 × Int32)) (h : bX6_leads_c22_19 a4 a5 a6 σ = some o) (Kb : ∀ (b5 : Int32) (b6 : Int32), o = .inr (b5, b6) → ∀ (H : Heap) (locs : List Loc) (ls : Array Slot), lv_has ls 7 [(0, .ref (ad 0)), (3, .ref (ad 22)), (4, .int a4), (5, .int b5), (6, .int b6)] → GW mSh mKs ad dc D A s σ H locs → W p l e RmX6_leads_c22 s m args below meth c H locs 0 0 Q (F0 m 19 ls [])) (Ke0 : ∀ (b5 : Int32), o = .inl b5 → ∀ (H : Heap) (locs : List Loc) (ls : Array Slot), lv_has ls 7 [(5, .int b5)] → GW mSh mKs ad dc D A s σ H locs → W p l e RmX6_leads_c22 s m args below meth c H locs 0 0 Q (F0 m 64 ls [])) (H : Heap) (locs : List Loc) (ls : Array Slot) (hl : lv_has ls 7 [(0, .ref (ad 0)), (3, .ref (ad 22)), (4, .int a4), (5, .int a5), (6, .int a6)]) (G : GW mSh mKs ad dc D A s σ H locs) : W p l e RmX6_leads_c22 s m args below meth c H locs 0 0 Q (F0 m 19 ls []) := by
  have hx := C0.1
  have hb := C0.2.1
  unfold bX6_leads_c22_19 at h
  refine lv_iload hx hb dX6_leads_19 (lv_at hl 4 rfl) ?_
  refine lv_aload_n hx hb dX6_leads_21 rfl (lv_at hl 0 rfl) ?_
  refine m_getI C0 G 58 (by decide) rfl q1572 dX6_leads_22 ?_
  refine lv_icmp_ge (tgt := 64) hx hb dX6_leads_25 (by decide) (fun c1 => ?_) (fun c1 => ?_)
  · have h := ite_t h c1
    cases h
    exact Ke0 a5 rfl _ _ _ (lv_sub hl [3] rfl) G
  · have h := ite_f h c1
    refine lv_iload hx hb dX6_leads_28 (lv_at hl 3 rfl) ?_
    refine lv_if_ne (tgt := 51) hx hb dX6_leads_30 (by decide) (fun c2 => ?_) (fun c2 => ?_)
    · have h := ite_f h c2
      exact wX6_leads_c22_51 C0 a4 a6 (σ)  _ h Kb Ke0 _ _ _ (lv_sub hl [0, 1, 2, 4] rfl) G
    · have h := ite_t h c2
      refine lv_aload_n hx hb dX6_leads_33 rfl (lv_at hl 1 rfl) ?_
      refine lv_aload_n hx hb dX6_leads_34 rfl (lv_at hl 0 rfl) ?_
      refine m_getC C0 G 57 (by decide) rfl q1571 dX6_leads_35 ?_
      refine lv_iload hx hb dX6_leads_38 (lv_at hl 4 rfl) ?_
      obtain ⟨b_3, h⟩ := ckB_e h
      refine g_iald C0 G (n := 59049) (by decide) rfl b_3 dX6_leads_40 ?_
      obtain ⟨b_4, h⟩ := ckB_e h
      refine g_iald C0 G (n := 59049) (by decide) rfl b_4 dX6_leads_41 ?_
      refine lv_iload hx hb dX6_leads_42 (lv_at hl 2 rfl) ?_
      refine lv_ishr hx hb dX6_leads_44 ?_
      refine lv_iconst (v := 1) hx hb dX6_leads_45 (by decide +kernel) ?_
      refine lv_iand hx hb dX6_leads_46 ?_
      refine lv_iconst (v := 1) hx hb dX6_leads_47 (by decide +kernel) ?_
      refine lv_icmp_ne (tgt := 55) hx hb dX6_leads_48 (by decide) (fun c5 => ?_) (fun c5 => ?_)
      · have h := ite_f h c5
        refine lv_iconst (v := 0) hx hb dX6_leads_55 (by decide +kernel) ?_
        refine lv_istore (lv' := [(5, .int 0), (0, .ref (ad 0)), (3, .ref (ad 22)), (4, .int a4), (6, .int a6)]) hx hb dX6_leads_56 hl (by decide) rfl (fun ls hl => ?_)
        obtain ⟨x6, e_x6⟩ : ∃ z : Int32, z = a6 + 1 := ⟨_, rfl⟩
        have h := letB_e h e_x6
        refine lv_iinc (v := x6) (lv' := [(6, .int x6), (5, .int 0), (0, .ref (ad 0)), (3, .ref (ad 22)), (4, .int a4)]) hx hb dX6_leads_58 hl (k := 4) rfl ((congrArg (fun z => a6 + z) (show Int32.ofInt 1 = 1 by decide)).trans e_x6.symm) (by decide) rfl (fun ls hl => ?_)
        refine lv_goto (tgt := 19) hx hb dX6_leads_61 (by decide) ?_
        cases h
        exact Kb 0 x6 rfl _ _ _ (lv_sub hl [2, 3, 4, 1, 0] rfl) G
      · have h := ite_t h c5
        exact wX6_leads_c22_51 C0 a4 a6 (σ)  _ h Kb Ke0 _ _ _ (lv_sub hl [0, 1, 2, 4] rfl) G
set_option maxHeartbeats 400000 in
theorem lX6_leads_c22_19 (C0 : Cx ad dc D RX6 cX6_leads 7 p s m args meth c) (a4 : Int32) (σ : St)  : ∀ (n : Nat) (a5 : Int32) (a6 : Int32) (ex : Int32) (h : iter (fun v : Int32 × Int32 => bX6_leads_c22_19 a4 v.1 v.2 σ) n (a5, a6) = some ex) (Ke0 : ∀ (b5 : Int32), ex = b5 → ∀ (H : Heap) (locs : List Loc) (ls : Array Slot), lv_has ls 7 [(5, .int b5)] → GW mSh mKs ad dc D A s σ H locs → W p l e RmX6_leads_c22 s m args below meth c H locs 0 0 Q (F0 m 64 ls [])) (H : Heap) (locs : List Loc) (ls : Array Slot) (hl : lv_has ls 7 [(0, .ref (ad 0)), (3, .ref (ad 22)), (4, .int a4), (5, .int a5), (6, .int a6)]) (G : GW mSh mKs ad dc D A s σ H locs), W p l e RmX6_leads_c22 s m args below meth c H locs 0 0 Q (F0 m 19 ls []) := by
  intro n
  induction n with
  | zero =>
    intro a5 a6 ex h
    cases h
  | succ n ih =>
    intro a5 a6 ex h Ke0 H locs ls hl G
    obtain ⟨r, hb1, hr⟩ := iter_e h
    refine wbX6_leads_c22_19 C0 a4 a5 a6 σ  r hb1 ?_ ?_ H locs ls hl G
    · intro b5 b6 hv H locs ls hl G
      subst hv
      rcases hr with hr | ⟨a', hr, h2⟩
      · cases hr
      · rw [← Sum.inr.inj hr] at h2
        exact ih b5 b6 ex h2 Ke0 H locs ls hl G
    · intro b5 hv H locs ls hl G
      subst hv
      rcases hr with hr | ⟨a', hr, h2⟩
      · exact Ke0 b5 (Sum.inl.inj hr).symm H locs ls hl G
      · cases hr
set_option maxHeartbeats 400000 in
theorem wX6_leads_c22_19 (C0 : Cx ad dc D RX6 cX6_leads 7 p s m args meth c) (a4 : Int32) (a5 : Int32) (a6 : Int32) (σ : St)  (o : Int32 × St) (h : fX6_leads_c22_19 a4 a5 a6 σ = some o) (Kr : KrZ p l e RmX6_leads_c22 s m args below meth c cX6_leads Q (GW mSh mKs ad dc D A s (o.2)) o.1) (H : Heap) (locs : List Loc) (ls : Array Slot) (hl : lv_has ls 7 [(0, .ref (ad 0)), (3, .ref (ad 22)), (4, .int a4), (5, .int a5), (6, .int a6)]) (G : GW mSh mKs ad dc D A s σ H locs) : W p l e RmX6_leads_c22 s m args below meth c H locs 0 0 Q (F0 m 19 ls []) := by
  have hx := C0.1
  have hb := C0.2.1
  unfold fX6_leads_c22_19 at h
  obtain ⟨ex, h1, h⟩ := bn1_e h
  refine lX6_leads_c22_19 C0 a4 σ  FU a5 a6 ex h1 ?_ H locs ls hl G
  · intro b5 hv H locs ls hl G
    rw [hv] at h
    have h : (ckZ b5 (some (b5, σ))) = some o := h
    refine lv_iload hx hb dX6_leads_64 (lv_at hl 0 rfl) ?_
    obtain ⟨hz, h⟩ := ckZ_e h
    cases h
    exact Kr _ _ _ _ dX6_leads_66 hz.1 G
set_option maxHeartbeats 400000 in
theorem wX6_leads_c22_0 (C0 : Cx ad dc D RX6 cX6_leads 7 p s m args meth c) (a1 : Int32) (a2 : Int32) (a4 : Int32) (σ : St)  (o : Int32 × St) (h : fX6_leads_c22 a1 a2 a4 σ = some o) (Kr : KrZ p l e RmX6_leads_c22 s m args below meth c cX6_leads Q (GW mSh mKs ad dc D A s (o.2)) o.1) (H : Heap) (locs : List Loc) (ls : Array Slot) (hl : lv_has ls 7 [(0, .ref (ad 0)), (1, .int a1), (2, .int a2), (3, .ref (ad 22)), (4, .int a4)]) (G : GW mSh mKs ad dc D A s σ H locs) : W p l e RmX6_leads_c22 s m args below meth c H locs 0 0 Q (F0 m 0 ls []) := by
  have hx := C0.1
  have hb := C0.2.1
  unfold fX6_leads_c22 at h
  refine lv_aload_n hx hb dX6_leads_0 rfl (lv_at hl 0 rfl) ?_
  refine lv_iload_n hx hb dX6_leads_1 rfl (lv_at hl 1 rfl) ?_
  refine lv_iload_n hx hb dX6_leads_2 rfl (lv_at hl 2 rfl) ?_
  refine lv_aload_n hx hb dX6_leads_3 rfl (lv_at hl 0 rfl) ?_
  refine m_getC C0 G 3 (by decide) rfl q1517 dX6_leads_4 ?_
  refine lv_bipush (v := 10) hx hb dX6_leads_7 (by decide +kernel) ?_
  obtain ⟨b_1, h⟩ := ckB_e h
  refine g_iald C0 G (n := 8060) (by decide) rfl b_1 dX6_leads_9 ?_
  obtain ⟨σ3, h_r2, h⟩ := bn1_e h
  refine g_callVv (rest := []) C0 G hl (ci := 6) rfl (by decide) rfl (kX6_findSpread (l := l) C0.2.2.2.2.2.2.1 G.2.2.2 h_r2) (cwV 3 C0.2.2.2.2.1 (lw_V q2039 q2041 qs93 q114 q2042) rfl rfl rfl hdX6_findSpread ⟨Nat.le_of_ble_eq_true rfl, Nat.le_of_ble_eq_true rfl⟩) rfl (Nat.le_of_ble_eq_true rfl) dX6_leads_10 ⟨Nat.zero_le _, Nat.zero_le _⟩ (fun H locs G => ?_)
  refine lv_iconst (v := 0) hx hb dX6_leads_13 (by decide +kernel) ?_
  refine lv_istore (lv' := [(5, .int 0), (0, .ref (ad 0)), (1, .int a1), (2, .int a2), (3, .ref (ad 22)), (4, .int a4)]) hx hb dX6_leads_14 hl (by decide) rfl (fun ls hl => ?_)
  refine lv_iconst (v := 0) hx hb dX6_leads_16 (by decide +kernel) ?_
  refine lv_istore (lv' := [(6, .int 0), (5, .int 0), (0, .ref (ad 0)), (1, .int a1), (2, .int a2), (3, .ref (ad 22)), (4, .int a4)]) hx hb dX6_leads_17 hl (by decide) rfl (fun ls hl => ?_)
  exact wX6_leads_c22_19 C0 a4 0 0 (σ3)  _ h Kr _ _ _ (lv_sub hl [2, 5, 6, 1, 0] rfl) G
theorem kX6_leads_c22 {l : Launch} {ad : Nat → Nat} {dc : Nat → ClassId} {D : va_G} {A : Nat → Prop}  (hi : ∀ i j, ad i = ad j → i = j) (hA : ∀ k, k ∈ mKs → A (ad k)) {σ : St} {a1 : Int32} {a2 : Int32} {a4 : Int32} {r : Int32} {σ' : St}  (h : fX6_leads_c22 a1 a2 a4 σ = some (r, σ')) : Met l yX6_leads (ws_ yX6_leads cX6_leads 7 (some .boolean)) RmX6_leads_c22 (gPc mSh mKs ad dc D σ [.ref (ad 0), .int a1, .int a2, .ref (ad 22), .int a4]) (gQi mSh mKs ad dc D A σ' r) 0 0 A :=
  g_metZ (by decide) rfl hi mKs_nd hA (Nat.le_of_ble_eq_true rfl) (fun p e s m below meth c Q C0 Kr ls hl G => wX6_leads_c22_0 C0 a1 a2 a4 σ  (r, σ') h Kr _ _ ls hl G)
-- X6_findPlan
abbrev RmX6_findPlan : Room := { frames := 6, cells := 0, slots := 0, locals := 151 }
theorem hdX6_findPlan : yX6_findPlan.cls = RX6 ∧ yX6_findPlan.cls ≠ "java/lang/invoke/MethodHandle" ∧ yX6_findPlan.cls ≠ "java/lang/invoke/VarHandle" ∧ (parseMethodDescriptor yX6_findPlan.desc).map (fun d => d.parameters.length) = some 0 := by decide +kernel
set_option maxHeartbeats 400000 in
theorem wX6_findPlan_178 (C0 : Cx ad dc D RX6 cX6_findPlan 6 p s m args meth c) (a1 : Int32) (a3 : Int32) (a4 : Int32) (t1 : Int32) (t2 : Int32) (σ : St)  (o : (St) ⊕ (Int32 × St)) (h : fX6_findPlan_178 a1 a3 a4 t1 t2 σ = some o) (Kb : ∀ (b4 : Int32) (σ' : St), o = .inr (b4, σ') → ∀ (H : Heap) (locs : List Loc) (ls : Array Slot), lv_has ls 6 [(0, .ref (ad 0)), (1, .int a1), (3, .int a3), (4, .int b4)] → GW mSh mKs ad dc D A s σ' H locs → W p l e RmX6_findPlan s m args below meth c H locs 0 0 Q (F0 m 120 ls [])) (Ke0 : ∀  (σ' : St), o = .inl (σ') → ∀ (H : Heap) (locs : List Loc) (ls : Array Slot), lv_has ls 6 [(0, .ref (ad 0)), (1, .int a1), (3, .int a3)] → GW mSh mKs ad dc D A s σ' H locs → W p l e RmX6_findPlan s m args below meth c H locs 0 0 Q (F0 m 187 ls [])) (H : Heap) (locs : List Loc) (ls : Array Slot) (hl : lv_has ls 6 [(0, .ref (ad 0)), (1, .int a1), (3, .int a3), (4, .int a4)]) (G : GW mSh mKs ad dc D A s σ H locs) : W p l e RmX6_findPlan s m args below meth c H locs 0 0 Q (F0 m 178 ls [.int t2, .int t1, .ref (ad 22)]) := by
  have hx := C0.1
  have hb := C0.2.1
  unfold fX6_findPlan_178 at h
  refine lv_iconst (v := 0) hx hb dX6_findPlan_178 (by decide +kernel) ?_
  refine lv_ior hx hb dX6_findPlan_179 ?_
  obtain ⟨b_1, h⟩ := ckB_e h
  refine g_iast C0 G (n := 59049) (by decide) rfl b_1 dX6_findPlan_180 (fun σ2 H locs e_σ2 G => ?_)
  have h := letB_e h e_σ2
  obtain ⟨x3, e_x3⟩ : ∃ z : Int32, z = a4 + 1 := ⟨_, rfl⟩
  have h := letB_e h e_x3
  refine lv_iinc (v := x3) (lv' := [(4, .int x3), (0, .ref (ad 0)), (1, .int a1), (3, .int a3)]) hx hb dX6_findPlan_181 hl (k := 3) rfl ((congrArg (fun z => a4 + z) (show Int32.ofInt 1 = 1 by decide)).trans e_x3.symm) (by decide) rfl (fun ls hl => ?_)
  refine lv_goto (tgt := 120) hx hb dX6_findPlan_184 (by decide) ?_
  cases h
  exact Kb x3 (σ2) rfl _ _ _ (lv_sub hl [1, 2, 3, 0] rfl) G
set_option maxHeartbeats 400000 in
theorem wbX6_findPlan_120 (C0 : Cx ad dc D RX6 cX6_findPlan 6 p s m args meth c) (a1 : Int32) (a3 : Int32) (a4 : Int32) (σ : St)  (o : (St) ⊕ (Int32 × St)) (h : bX6_findPlan_120 a1 a3 a4 σ = some o) (Kb : ∀ (b4 : Int32) (σ' : St), o = .inr (b4, σ') → ∀ (H : Heap) (locs : List Loc) (ls : Array Slot), lv_has ls 6 [(0, .ref (ad 0)), (1, .int a1), (3, .int a3), (4, .int b4)] → GW mSh mKs ad dc D A s σ' H locs → W p l e RmX6_findPlan s m args below meth c H locs 0 0 Q (F0 m 120 ls [])) (Ke0 : ∀  (σ' : St), o = .inl (σ') → ∀ (H : Heap) (locs : List Loc) (ls : Array Slot), lv_has ls 6 [(0, .ref (ad 0)), (1, .int a1), (3, .int a3)] → GW mSh mKs ad dc D A s σ' H locs → W p l e RmX6_findPlan s m args below meth c H locs 0 0 Q (F0 m 187 ls [])) (H : Heap) (locs : List Loc) (ls : Array Slot) (hl : lv_has ls 6 [(0, .ref (ad 0)), (1, .int a1), (3, .int a3), (4, .int a4)]) (G : GW mSh mKs ad dc D A s σ H locs) : W p l e RmX6_findPlan s m args below meth c H locs 0 0 Q (F0 m 120 ls []) := by
  have hx := C0.1
  have hb := C0.2.1
  unfold bX6_findPlan_120 at h
  refine lv_iload hx hb dX6_findPlan_120 (lv_at hl 3 rfl) ?_
  refine lv_ldc hx hb C0.2.2.2.1 (C0.2.2.2.2.1 _ q1513) dX6_findPlan_122 ?_
  refine lv_icmp_ge (tgt := 187) hx hb dX6_findPlan_124 (by decide) (fun c1 => ?_) (fun c1 => ?_)
  · have h := ite_t h c1
    cases h
    exact Ke0 (σ) rfl _ _ _ (lv_sub hl [0, 1, 2] rfl) G
  · have h := ite_f h c1
    refine lv_aload_n hx hb dX6_findPlan_127 rfl (lv_at hl 0 rfl) ?_
    refine m_getC C0 G 54 (by decide) rfl q1568 dX6_findPlan_128 ?_
    refine lv_iload hx hb dX6_findPlan_131 (lv_at hl 3 rfl) ?_
    refine lv_dup2_11 hx hb dX6_findPlan_133 rfl rfl ?_
    obtain ⟨b_2, h⟩ := ckB_e h
    refine g_iald C0 G (n := 59049) (by decide) rfl b_2 dX6_findPlan_134 ?_
    refine lv_aload_n hx hb dX6_findPlan_135 rfl (lv_at hl 0 rfl) ?_
    refine m_getC C0 G 53 (by decide) rfl q1567 dX6_findPlan_136 ?_
    refine lv_iload hx hb dX6_findPlan_139 (lv_at hl 3 rfl) ?_
    obtain ⟨b_3, h⟩ := ckB_e h
    refine g_iald C0 G (n := 59049) (by decide) rfl b_3 dX6_findPlan_141 ?_
    refine lv_iload_n hx hb dX6_findPlan_142 rfl (lv_at hl 2 rfl) ?_
    refine lv_ishr hx hb dX6_findPlan_143 ?_
    refine lv_iconst (v := 1) hx hb dX6_findPlan_144 (by decide +kernel) ?_
    refine lv_iand hx hb dX6_findPlan_145 ?_
    refine lv_iconst (v := 1) hx hb dX6_findPlan_146 (by decide +kernel) ?_
    refine lv_icmp_ne (tgt := 178) hx hb dX6_findPlan_147 (by decide) (fun c4 => ?_) (fun c4 => ?_)
    · have h := ite_f h c4
      exact wX6_findPlan_178 C0 a1 a3 a4 a4 (gA σ 22 a4.toNatClampNeg) (σ)  _ h Kb Ke0 _ _ _ hl G
    · have h := ite_t h c4
      refine lv_aload_n hx hb dX6_findPlan_150 rfl (lv_at hl 0 rfl) ?_
      refine lv_iload hx hb dX6_findPlan_151 (lv_at hl 3 rfl) ?_
      refine lv_aload_n hx hb dX6_findPlan_153 rfl (lv_at hl 0 rfl) ?_
      refine m_getC C0 G 61 (by decide) rfl q1575 dX6_findPlan_154 ?_
      refine lv_iload_n hx hb dX6_findPlan_157 rfl (lv_at hl 2 rfl) ?_
      obtain ⟨b_5, h⟩ := ckB_e h
      refine g_iald C0 G (n := 7) (by decide) rfl b_5 dX6_findPlan_158 ?_
      refine lv_aload_n hx hb dX6_findPlan_159 rfl (lv_at hl 0 rfl) ?_
      refine m_getC C0 G 54 (by decide) rfl q1568 dX6_findPlan_160 ?_
      refine lv_iload_n hx hb dX6_findPlan_163 rfl (lv_at hl 2 rfl) ?_
      refine lv_iconst (v := 1) hx hb dX6_findPlan_164 (by decide +kernel) ?_
      refine lv_iadd hx hb dX6_findPlan_165 ?_
      obtain ⟨r6, σ7, h_r6, h⟩ := bn2_e h
      refine g_callVi (rest := [.int (gA σ 22 a4.toNatClampNeg), .int a4, .ref (ad 22)]) C0 G hl (ci := 6) rfl (by decide) rfl (kX6_leads_c22 (l := l) C0.2.2.2.2.2.2.1 G.2.2.2 h_r6) (cwV 4 C0.2.2.2.2.1 (lw_V q2067 q2069 qs99 q114 q2070) rfl rfl rfl hdX6_leads_c22 ⟨Nat.le_of_ble_eq_true rfl, Nat.le_of_ble_eq_true rfl⟩) rfl (Nat.le_of_ble_eq_true rfl) dX6_findPlan_166 ⟨Nat.zero_le _, Nat.zero_le _⟩ (fun H locs G => ?_)
      refine lv_if_eq (tgt := 178) hx hb dX6_findPlan_169 (by decide) (fun c8 => ?_) (fun c8 => ?_)
      · have h := ite_t h c8
        exact wX6_findPlan_178 C0 a1 a3 a4 a4 (gA σ 22 a4.toNatClampNeg) (σ7)  _ h Kb Ke0 _ _ _ hl G
      · have h := ite_f h c8
        refine lv_iconst (v := 1) hx hb dX6_findPlan_172 (by decide +kernel) ?_
        refine lv_iload_n hx hb dX6_findPlan_173 rfl (lv_at hl 2 rfl) ?_
        refine lv_ishl hx hb dX6_findPlan_174 ?_
        refine lv_goto (tgt := 179) hx hb dX6_findPlan_175 (by decide) ?_
        refine lv_ior hx hb dX6_findPlan_179 ?_
        obtain ⟨b_9, h⟩ := ckB_e h
        refine g_iast C0 G (n := 59049) (by decide) rfl b_9 dX6_findPlan_180 (fun σ10 H locs e_σ10 G => ?_)
        have h := letB_e h e_σ10
        obtain ⟨x11, e_x11⟩ : ∃ z : Int32, z = a4 + 1 := ⟨_, rfl⟩
        have h := letB_e h e_x11
        refine lv_iinc (v := x11) (lv' := [(4, .int x11), (0, .ref (ad 0)), (1, .int a1), (3, .int a3)]) hx hb dX6_findPlan_181 hl (k := 3) rfl ((congrArg (fun z => a4 + z) (show Int32.ofInt 1 = 1 by decide)).trans e_x11.symm) (by decide) rfl (fun ls hl => ?_)
        refine lv_goto (tgt := 120) hx hb dX6_findPlan_184 (by decide) ?_
        cases h
        exact Kb x11 (σ10) rfl _ _ _ (lv_sub hl [1, 2, 3, 0] rfl) G
set_option maxHeartbeats 400000 in
theorem lX6_findPlan_120 (C0 : Cx ad dc D RX6 cX6_findPlan 6 p s m args meth c) (a1 : Int32) (a3 : Int32)   : ∀ (n : Nat) (a4 : Int32) (σ : St) (ex : St) (h : iter (fun v : Int32 × St => bX6_findPlan_120 a1 a3 v.1 v.2) n (a4, σ) = some ex) (Ke0 : ∀  (σ' : St), ex = σ' → ∀ (H : Heap) (locs : List Loc) (ls : Array Slot), lv_has ls 6 [(0, .ref (ad 0)), (1, .int a1), (3, .int a3)] → GW mSh mKs ad dc D A s σ' H locs → W p l e RmX6_findPlan s m args below meth c H locs 0 0 Q (F0 m 187 ls [])) (H : Heap) (locs : List Loc) (ls : Array Slot) (hl : lv_has ls 6 [(0, .ref (ad 0)), (1, .int a1), (3, .int a3), (4, .int a4)]) (G : GW mSh mKs ad dc D A s σ H locs), W p l e RmX6_findPlan s m args below meth c H locs 0 0 Q (F0 m 120 ls []) := by
  intro n
  induction n with
  | zero =>
    intro a4 σ ex h
    cases h
  | succ n ih =>
    intro a4 σ ex h Ke0 H locs ls hl G
    obtain ⟨r, hb1, hr⟩ := iter_e h
    refine wbX6_findPlan_120 C0 a1 a3 a4 σ  r hb1 ?_ ?_ H locs ls hl G
    · intro b4 σ' hv H locs ls hl G
      subst hv
      rcases hr with hr | ⟨a', hr, h2⟩
      · cases hr
      · rw [← Sum.inr.inj hr] at h2
        exact ih b4 σ' ex h2 Ke0 H locs ls hl G
    · intro σ' hv H locs ls hl G
      subst hv
      rcases hr with hr | ⟨a', hr, h2⟩
      · exact Ke0 σ' (Sum.inl.inj hr).symm H locs ls hl G
      · cases hr
set_option maxHeartbeats 400000 in
theorem wX6_findPlan_120 (C0 : Cx ad dc D RX6 cX6_findPlan 6 p s m args meth c) (a1 : Int32) (a3 : Int32) (a4 : Int32) (σ : St)  (o : (St) ⊕ (Int32 × St)) (h : fX6_findPlan_120 a1 a3 a4 σ = some o) (Kb : ∀ (b3 : Int32) (σ' : St), o = .inr (b3, σ') → ∀ (H : Heap) (locs : List Loc) (ls : Array Slot), lv_has ls 6 [(0, .ref (ad 0)), (1, .int a1), (3, .int b3)] → GW mSh mKs ad dc D A s σ' H locs → W p l e RmX6_findPlan s m args below meth c H locs 0 0 Q (F0 m 113 ls [])) (Ke0 : ∀  (σ' : St), o = .inl (σ') → ∀ (H : Heap) (locs : List Loc) (ls : Array Slot), lv_has ls 6 [(0, .ref (ad 0)), (1, .int a1)] → GW mSh mKs ad dc D A s σ' H locs → W p l e RmX6_findPlan s m args below meth c H locs 0 0 Q (F0 m 193 ls [])) (H : Heap) (locs : List Loc) (ls : Array Slot) (hl : lv_has ls 6 [(0, .ref (ad 0)), (1, .int a1), (3, .int a3), (4, .int a4)]) (G : GW mSh mKs ad dc D A s σ H locs) : W p l e RmX6_findPlan s m args below meth c H locs 0 0 Q (F0 m 120 ls []) := by
  have hx := C0.1
  have hb := C0.2.1
  unfold fX6_findPlan_120 at h
  obtain ⟨ex, h1, h⟩ := bn1_e h
  refine lX6_findPlan_120 C0 a1 a3   FU a4 σ ex h1 ?_ H locs ls hl G
  · intro σ' hv H locs ls hl G
    rw [hv] at h
    have h : (letB (a3 + (-1)) (fun x1 => some (.inr (x1, σ')))) = some o := h
    obtain ⟨x1, e_x1⟩ : ∃ z : Int32, z = a3 + (-1) := ⟨_, rfl⟩
    have h := letB_e h e_x1
    refine lv_iinc (v := x1) (lv' := [(3, .int x1), (0, .ref (ad 0)), (1, .int a1)]) hx hb dX6_findPlan_187 hl (k := 2) rfl ((congrArg (fun z => a3 + z) (show Int32.ofInt (-1) = (-1) by decide)).trans e_x1.symm) (by decide) rfl (fun ls hl => ?_)
    refine lv_goto (tgt := 113) hx hb dX6_findPlan_190 (by decide) ?_
    cases h
    exact Kb x1 (σ') rfl _ _ _ (lv_sub hl [1, 2, 0] rfl) G
set_option maxHeartbeats 400000 in
theorem wX6_findPlan_288 (C0 : Cx ad dc D RX6 cX6_findPlan 6 p s m args meth c) (a3 : Int32) (a5 : Int32) (σ : St)  (o : (Int32) ⊕ (Int32 × Int32)) (h : fX6_findPlan_288 a3 a5 σ = some o) (Kb : ∀ (b4 : Int32) (b5 : Int32), o = .inr (b4, b5) → ∀ (H : Heap) (locs : List Loc) (ls : Array Slot), lv_has ls 6 [(0, .ref (ad 0)), (3, .int a3), (4, .int b4), (5, .int b5)] → GW mSh mKs ad dc D A s σ H locs → W p l e RmX6_findPlan s m args below meth c H locs 0 0 Q (F0 m 239 ls [])) (Ke0 : ∀ (b4 : Int32), o = .inl b4 → ∀ (H : Heap) (locs : List Loc) (ls : Array Slot), lv_has ls 6 [(0, .ref (ad 0)), (3, .int a3), (4, .int b4)] → GW mSh mKs ad dc D A s σ H locs → W p l e RmX6_findPlan s m args below meth c H locs 0 0 Q (F0 m 308 ls [])) (H : Heap) (locs : List Loc) (ls : Array Slot) (hl : lv_has ls 6 [(0, .ref (ad 0)), (3, .int a3), (5, .int a5)]) (G : GW mSh mKs ad dc D A s σ H locs) : W p l e RmX6_findPlan s m args below meth c H locs 0 0 Q (F0 m 288 ls []) := by
  have hx := C0.1
  have hb := C0.2.1
  unfold fX6_findPlan_288 at h
  refine lv_aload_n hx hb dX6_findPlan_288 rfl (lv_at hl 0 rfl) ?_
  refine m_getC C0 G 57 (by decide) rfl q1571 dX6_findPlan_289 ?_
  refine lv_iload hx hb dX6_findPlan_292 (lv_at hl 2 rfl) ?_
  obtain ⟨b_1, h⟩ := ckB_e h
  refine g_iald C0 G (n := 59049) (by decide) rfl b_1 dX6_findPlan_294 ?_
  refine lv_goto (tgt := 300) hx hb dX6_findPlan_295 (by decide) ?_
  refine lv_topi (fun x2 e_x2 => ?_)
  have h := letB_e h e_x2
  refine lv_istore (lv' := [(4, .int x2), (0, .ref (ad 0)), (3, .int a3), (5, .int a5)]) hx hb dX6_findPlan_300 hl (by decide) rfl (fun ls hl => ?_)
  obtain ⟨x3, e_x3⟩ : ∃ z : Int32, z = a5 + 1 := ⟨_, rfl⟩
  have h := letB_e h e_x3
  refine lv_iinc (v := x3) (lv' := [(5, .int x3), (4, .int x2), (0, .ref (ad 0)), (3, .int a3)]) hx hb dX6_findPlan_302 hl (k := 3) rfl ((congrArg (fun z => a5 + z) (show Int32.ofInt 1 = 1 by decide)).trans e_x3.symm) (by decide) rfl (fun ls hl => ?_)
  refine lv_goto (tgt := 239) hx hb dX6_findPlan_305 (by decide) ?_
  cases h
  exact Kb x2 x3 rfl _ _ _ (lv_sub hl [2, 3, 1, 0] rfl) G
set_option maxHeartbeats 400000 in
theorem wX6_findPlan_308 (C0 : Cx ad dc D RX6 cX6_findPlan 6 p s m args meth c) (a3 : Int32) (a4 : Int32) (σ : St)  (o : (St) ⊕ (Int32 × St)) (h : fX6_findPlan_308 a3 a4 σ = some o) (Kb : ∀ (b3 : Int32) (σ' : St), o = .inr (b3, σ') → ∀ (H : Heap) (locs : List Loc) (ls : Array Slot), lv_has ls 6 [(0, .ref (ad 0)), (3, .int b3)] → GW mSh mKs ad dc D A s σ' H locs → W p l e RmX6_findPlan s m args below meth c H locs 0 0 Q (F0 m 202 ls [])) (Ke0 : ∀  (σ' : St), o = .inl (σ') → ∀ (H : Heap) (locs : List Loc) (ls : Array Slot), lv_has ls 6 [] → GW mSh mKs ad dc D A s σ' H locs → W p l e RmX6_findPlan s m args below meth c H locs 0 0 Q (F0 m 324 ls [])) (H : Heap) (locs : List Loc) (ls : Array Slot) (hl : lv_has ls 6 [(0, .ref (ad 0)), (3, .int a3), (4, .int a4)]) (G : GW mSh mKs ad dc D A s σ H locs) : W p l e RmX6_findPlan s m args below meth c H locs 0 0 Q (F0 m 308 ls []) := by
  have hx := C0.1
  have hb := C0.2.1
  unfold fX6_findPlan_308 at h
  refine lv_aload_n hx hb dX6_findPlan_308 rfl (lv_at hl 0 rfl) ?_
  refine m_getC C0 G 62 (by decide) rfl q1576 dX6_findPlan_309 ?_
  refine lv_iload_n hx hb dX6_findPlan_312 rfl (lv_at hl 1 rfl) ?_
  refine lv_iconst (v := 1) hx hb dX6_findPlan_313 (by decide +kernel) ?_
  refine lv_iadd hx hb dX6_findPlan_314 ?_
  refine lv_iload hx hb dX6_findPlan_315 (lv_at hl 2 rfl) ?_
  obtain ⟨b_1, h⟩ := ckB_e h
  refine g_iast C0 G (n := 7) (by decide) rfl b_1 dX6_findPlan_317 (fun σ2 H locs e_σ2 G => ?_)
  have h := letB_e h e_σ2
  obtain ⟨x3, e_x3⟩ : ∃ z : Int32, z = a3 + 1 := ⟨_, rfl⟩
  have h := letB_e h e_x3
  refine lv_iinc (v := x3) (lv' := [(3, .int x3), (0, .ref (ad 0)), (4, .int a4)]) hx hb dX6_findPlan_318 hl (k := 1) rfl ((congrArg (fun z => a3 + z) (show Int32.ofInt 1 = 1 by decide)).trans e_x3.symm) (by decide) rfl (fun ls hl => ?_)
  refine lv_goto (tgt := 202) hx hb dX6_findPlan_321 (by decide) ?_
  cases h
  exact Kb x3 (σ2) rfl _ _ _ (lv_sub hl [1, 0] rfl) G
set_option maxHeartbeats 400000 in
theorem wbX6_findPlan_239 (C0 : Cx ad dc D RX6 cX6_findPlan 6 p s m args meth c) (a3 : Int32) (a4 : Int32) (a5 : Int32) (σ : St)  (o : (Int32) ⊕ (Int32 × Int32)) (h : bX6_findPlan_239 a3 a4 a5 σ = some o) (Kb : ∀ (b4 : Int32) (b5 : Int32), o = .inr (b4, b5) → ∀ (H : Heap) (locs : List Loc) (ls : Array Slot), lv_has ls 6 [(0, .ref (ad 0)), (3, .int a3), (4, .int b4), (5, .int b5)] → GW mSh mKs ad dc D A s σ H locs → W p l e RmX6_findPlan s m args below meth c H locs 0 0 Q (F0 m 239 ls [])) (Ke0 : ∀ (b4 : Int32), o = .inl b4 → ∀ (H : Heap) (locs : List Loc) (ls : Array Slot), lv_has ls 6 [(0, .ref (ad 0)), (3, .int a3), (4, .int b4)] → GW mSh mKs ad dc D A s σ H locs → W p l e RmX6_findPlan s m args below meth c H locs 0 0 Q (F0 m 308 ls [])) (H : Heap) (locs : List Loc) (ls : Array Slot) (hl : lv_has ls 6 [(0, .ref (ad 0)), (3, .int a3), (4, .int a4), (5, .int a5)]) (G : GW mSh mKs ad dc D A s σ H locs) : W p l e RmX6_findPlan s m args below meth c H locs 0 0 Q (F0 m 239 ls []) := by
  have hx := C0.1
  have hb := C0.2.1
  unfold bX6_findPlan_239 at h
  refine lv_iload hx hb dX6_findPlan_239 (lv_at hl 3 rfl) ?_
  refine lv_aload_n hx hb dX6_findPlan_241 rfl (lv_at hl 0 rfl) ?_
  refine m_getI C0 G 58 (by decide) rfl q1572 dX6_findPlan_242 ?_
  refine lv_icmp_ge (tgt := 308) hx hb dX6_findPlan_245 (by decide) (fun c1 => ?_) (fun c1 => ?_)
  · have h := ite_t h c1
    cases h
    exact Ke0 a4 rfl _ _ _ (lv_sub hl [0, 1, 2] rfl) G
  · have h := ite_f h c1
    refine lv_aload_n hx hb dX6_findPlan_248 rfl (lv_at hl 0 rfl) ?_
    refine m_getC C0 G 54 (by decide) rfl q1568 dX6_findPlan_249 ?_
    refine lv_aload_n hx hb dX6_findPlan_252 rfl (lv_at hl 0 rfl) ?_
    refine m_getC C0 G 57 (by decide) rfl q1571 dX6_findPlan_253 ?_
    refine lv_iload hx hb dX6_findPlan_256 (lv_at hl 3 rfl) ?_
    obtain ⟨b_2, h⟩ := ckB_e h
    refine g_iald C0 G (n := 59049) (by decide) rfl b_2 dX6_findPlan_258 ?_
    obtain ⟨b_3, h⟩ := ckB_e h
    refine g_iald C0 G (n := 59049) (by decide) rfl b_3 dX6_findPlan_259 ?_
    refine lv_iload_n hx hb dX6_findPlan_260 rfl (lv_at hl 1 rfl) ?_
    refine lv_iconst (v := 1) hx hb dX6_findPlan_261 (by decide +kernel) ?_
    refine lv_iadd hx hb dX6_findPlan_262 ?_
    refine lv_ishr hx hb dX6_findPlan_263 ?_
    refine lv_iconst (v := 1) hx hb dX6_findPlan_264 (by decide +kernel) ?_
    refine lv_iand hx hb dX6_findPlan_265 ?_
    refine lv_iconst (v := 1) hx hb dX6_findPlan_266 (by decide +kernel) ?_
    refine lv_icmp_ne (tgt := 298) hx hb dX6_findPlan_267 (by decide) (fun c4 => ?_) (fun c4 => ?_)
    · have h := ite_f h c4
      refine lv_iload hx hb dX6_findPlan_298 (lv_at hl 2 rfl) ?_
      refine lv_istore (lv' := [(4, .int a4), (0, .ref (ad 0)), (3, .int a3), (5, .int a5)]) hx hb dX6_findPlan_300 hl (by decide) rfl (fun ls hl => ?_)
      obtain ⟨x5, e_x5⟩ : ∃ z : Int32, z = a5 + 1 := ⟨_, rfl⟩
      have h := letB_e h e_x5
      refine lv_iinc (v := x5) (lv' := [(5, .int x5), (4, .int a4), (0, .ref (ad 0)), (3, .int a3)]) hx hb dX6_findPlan_302 hl (k := 3) rfl ((congrArg (fun z => a5 + z) (show Int32.ofInt 1 = 1 by decide)).trans e_x5.symm) (by decide) rfl (fun ls hl => ?_)
      refine lv_goto (tgt := 239) hx hb dX6_findPlan_305 (by decide) ?_
      cases h
      exact Kb a4 x5 rfl _ _ _ (lv_sub hl [2, 3, 1, 0] rfl) G
    · have h := ite_t h c4
      refine lv_iload hx hb dX6_findPlan_270 (lv_at hl 2 rfl) ?_
      refine lv_iconst (v := (-1)) hx hb dX6_findPlan_272 (by decide +kernel) ?_
      refine lv_icmp_eq (tgt := 288) hx hb dX6_findPlan_273 (by decide) (fun c6 => ?_) (fun c6 => ?_)
      · have h := ite_t h c6
        exact wX6_findPlan_288 C0 a3 a5 (σ)  _ h Kb Ke0 _ _ _ (lv_sub hl [0, 1, 3] rfl) G
      · have h := ite_f h c6
        refine lv_aload_n hx hb dX6_findPlan_276 rfl (lv_at hl 0 rfl) ?_
        refine m_getC C0 G 57 (by decide) rfl q1571 dX6_findPlan_277 ?_
        refine lv_iload hx hb dX6_findPlan_280 (lv_at hl 3 rfl) ?_
        obtain ⟨b_7, h⟩ := ckB_e h
        refine g_iald C0 G (n := 59049) (by decide) rfl b_7 dX6_findPlan_282 ?_
        refine lv_iload hx hb dX6_findPlan_283 (lv_at hl 2 rfl) ?_
        refine lv_icmp_ge (tgt := 298) hx hb dX6_findPlan_285 (by decide) (fun c8 => ?_) (fun c8 => ?_)
        · have h := ite_t h c8
          refine lv_iload hx hb dX6_findPlan_298 (lv_at hl 2 rfl) ?_
          refine lv_istore (lv' := [(4, .int a4), (0, .ref (ad 0)), (3, .int a3), (5, .int a5)]) hx hb dX6_findPlan_300 hl (by decide) rfl (fun ls hl => ?_)
          obtain ⟨x9, e_x9⟩ : ∃ z : Int32, z = a5 + 1 := ⟨_, rfl⟩
          have h := letB_e h e_x9
          refine lv_iinc (v := x9) (lv' := [(5, .int x9), (4, .int a4), (0, .ref (ad 0)), (3, .int a3)]) hx hb dX6_findPlan_302 hl (k := 3) rfl ((congrArg (fun z => a5 + z) (show Int32.ofInt 1 = 1 by decide)).trans e_x9.symm) (by decide) rfl (fun ls hl => ?_)
          refine lv_goto (tgt := 239) hx hb dX6_findPlan_305 (by decide) ?_
          cases h
          exact Kb a4 x9 rfl _ _ _ (lv_sub hl [2, 3, 1, 0] rfl) G
        · have h := ite_f h c8
          exact wX6_findPlan_288 C0 a3 a5 (σ)  _ h Kb Ke0 _ _ _ (lv_sub hl [0, 1, 3] rfl) G
set_option maxHeartbeats 400000 in
theorem lX6_findPlan_239 (C0 : Cx ad dc D RX6 cX6_findPlan 6 p s m args meth c) (a3 : Int32) (σ : St)  : ∀ (n : Nat) (a4 : Int32) (a5 : Int32) (ex : Int32) (h : iter (fun v : Int32 × Int32 => bX6_findPlan_239 a3 v.1 v.2 σ) n (a4, a5) = some ex) (Ke0 : ∀ (b4 : Int32), ex = b4 → ∀ (H : Heap) (locs : List Loc) (ls : Array Slot), lv_has ls 6 [(0, .ref (ad 0)), (3, .int a3), (4, .int b4)] → GW mSh mKs ad dc D A s σ H locs → W p l e RmX6_findPlan s m args below meth c H locs 0 0 Q (F0 m 308 ls [])) (H : Heap) (locs : List Loc) (ls : Array Slot) (hl : lv_has ls 6 [(0, .ref (ad 0)), (3, .int a3), (4, .int a4), (5, .int a5)]) (G : GW mSh mKs ad dc D A s σ H locs), W p l e RmX6_findPlan s m args below meth c H locs 0 0 Q (F0 m 239 ls []) := by
  intro n
  induction n with
  | zero =>
    intro a4 a5 ex h
    cases h
  | succ n ih =>
    intro a4 a5 ex h Ke0 H locs ls hl G
    obtain ⟨r, hb1, hr⟩ := iter_e h
    refine wbX6_findPlan_239 C0 a3 a4 a5 σ  r hb1 ?_ ?_ H locs ls hl G
    · intro b4 b5 hv H locs ls hl G
      subst hv
      rcases hr with hr | ⟨a', hr, h2⟩
      · cases hr
      · rw [← Sum.inr.inj hr] at h2
        exact ih b4 b5 ex h2 Ke0 H locs ls hl G
    · intro b4 hv H locs ls hl G
      subst hv
      rcases hr with hr | ⟨a', hr, h2⟩
      · exact Ke0 b4 (Sum.inl.inj hr).symm H locs ls hl G
      · cases hr
set_option maxHeartbeats 400000 in
theorem wX6_findPlan_239 (C0 : Cx ad dc D RX6 cX6_findPlan 6 p s m args meth c) (a3 : Int32) (a4 : Int32) (a5 : Int32) (σ : St)  (o : (St) ⊕ (Int32 × St)) (h : fX6_findPlan_239 a3 a4 a5 σ = some o) (Kb : ∀ (b3 : Int32) (σ' : St), o = .inr (b3, σ') → ∀ (H : Heap) (locs : List Loc) (ls : Array Slot), lv_has ls 6 [(0, .ref (ad 0)), (3, .int b3)] → GW mSh mKs ad dc D A s σ' H locs → W p l e RmX6_findPlan s m args below meth c H locs 0 0 Q (F0 m 202 ls [])) (Ke0 : ∀  (σ' : St), o = .inl (σ') → ∀ (H : Heap) (locs : List Loc) (ls : Array Slot), lv_has ls 6 [] → GW mSh mKs ad dc D A s σ' H locs → W p l e RmX6_findPlan s m args below meth c H locs 0 0 Q (F0 m 324 ls [])) (H : Heap) (locs : List Loc) (ls : Array Slot) (hl : lv_has ls 6 [(0, .ref (ad 0)), (3, .int a3), (4, .int a4), (5, .int a5)]) (G : GW mSh mKs ad dc D A s σ H locs) : W p l e RmX6_findPlan s m args below meth c H locs 0 0 Q (F0 m 239 ls []) := by
  have hx := C0.1
  have hb := C0.2.1
  unfold fX6_findPlan_239 at h
  obtain ⟨ex, h1, h⟩ := bn1_e h
  refine lX6_findPlan_239 C0 a3 σ  FU a4 a5 ex h1 ?_ H locs ls hl G
  · intro b4 hv H locs ls hl G
    rw [hv] at h
    have h : (fX6_findPlan_308 a3 b4 (σ)) = some o := h
    exact wX6_findPlan_308 C0 a3 b4 (σ)  _ h Kb Ke0 _ _ _ hl G
set_option maxHeartbeats 400000 in
theorem wbX6_findPlan_202 (C0 : Cx ad dc D RX6 cX6_findPlan 6 p s m args meth c) (a3 : Int32) (σ : St)  (o : (St) ⊕ (Int32 × St)) (h : bX6_findPlan_202 a3 σ = some o) (Kb : ∀ (b3 : Int32) (σ' : St), o = .inr (b3, σ') → ∀ (H : Heap) (locs : List Loc) (ls : Array Slot), lv_has ls 6 [(0, .ref (ad 0)), (3, .int b3)] → GW mSh mKs ad dc D A s σ' H locs → W p l e RmX6_findPlan s m args below meth c H locs 0 0 Q (F0 m 202 ls [])) (Ke0 : ∀  (σ' : St), o = .inl (σ') → ∀ (H : Heap) (locs : List Loc) (ls : Array Slot), lv_has ls 6 [] → GW mSh mKs ad dc D A s σ' H locs → W p l e RmX6_findPlan s m args below meth c H locs 0 0 Q (F0 m 324 ls [])) (H : Heap) (locs : List Loc) (ls : Array Slot) (hl : lv_has ls 6 [(0, .ref (ad 0)), (3, .int a3)]) (G : GW mSh mKs ad dc D A s σ H locs) : W p l e RmX6_findPlan s m args below meth c H locs 0 0 Q (F0 m 202 ls []) := by
  have hx := C0.1
  have hb := C0.2.1
  unfold bX6_findPlan_202 at h
  refine lv_iload_n hx hb dX6_findPlan_202 rfl (lv_at hl 1 rfl) ?_
  refine lv_aload_n hx hb dX6_findPlan_203 rfl (lv_at hl 0 rfl) ?_
  refine m_getI C0 G 60 (by decide) rfl q1574 dX6_findPlan_204 ?_
  refine lv_icmp_ge (tgt := 324) hx hb dX6_findPlan_207 (by decide) (fun c1 => ?_) (fun c1 => ?_)
  · have h := ite_t h c1
    cases h
    exact Ke0 (σ) rfl _ _ _ (lv_sub hl [] rfl) G
  · have h := ite_f h c1
    refine lv_aload_n hx hb dX6_findPlan_210 rfl (lv_at hl 0 rfl) ?_
    refine lv_aload_n hx hb dX6_findPlan_211 rfl (lv_at hl 0 rfl) ?_
    refine m_getC C0 G 62 (by decide) rfl q1576 dX6_findPlan_212 ?_
    refine lv_iload_n hx hb dX6_findPlan_215 rfl (lv_at hl 1 rfl) ?_
    obtain ⟨b_2, h⟩ := ckB_e h
    refine g_iald C0 G (n := 7) (by decide) rfl b_2 dX6_findPlan_216 ?_
    refine lv_aload_n hx hb dX6_findPlan_217 rfl (lv_at hl 0 rfl) ?_
    refine m_getC C0 G 61 (by decide) rfl q1575 dX6_findPlan_218 ?_
    refine lv_iload_n hx hb dX6_findPlan_221 rfl (lv_at hl 1 rfl) ?_
    obtain ⟨b_3, h⟩ := ckB_e h
    refine g_iald C0 G (n := 7) (by decide) rfl b_3 dX6_findPlan_222 ?_
    refine lv_aload_n hx hb dX6_findPlan_223 rfl (lv_at hl 0 rfl) ?_
    refine m_getC C0 G 3 (by decide) rfl q1517 dX6_findPlan_224 ?_
    refine lv_bipush (v := 10) hx hb dX6_findPlan_227 (by decide +kernel) ?_
    obtain ⟨b_4, h⟩ := ckB_e h
    refine g_iald C0 G (n := 8060) (by decide) rfl b_4 dX6_findPlan_229 ?_
    obtain ⟨σ6, h_r5, h⟩ := bn1_e h
    refine g_callVv (rest := []) C0 G hl (ci := 6) rfl (by decide) rfl (kX6_findSpread (l := l) C0.2.2.2.2.2.2.1 G.2.2.2 h_r5) (cwV 3 C0.2.2.2.2.1 (lw_V q2039 q2041 qs93 q114 q2042) rfl rfl rfl hdX6_findSpread ⟨Nat.le_of_ble_eq_true rfl, Nat.le_of_ble_eq_true rfl⟩) rfl (Nat.le_of_ble_eq_true rfl) dX6_findPlan_230 ⟨Nat.zero_le _, Nat.zero_le _⟩ (fun H locs G => ?_)
    refine lv_iconst (v := (-1)) hx hb dX6_findPlan_233 (by decide +kernel) ?_
    refine lv_istore (lv' := [(4, .int (-1)), (0, .ref (ad 0)), (3, .int a3)]) hx hb dX6_findPlan_234 hl (by decide) rfl (fun ls hl => ?_)
    refine lv_iconst (v := 0) hx hb dX6_findPlan_236 (by decide +kernel) ?_
    refine lv_istore (lv' := [(5, .int 0), (4, .int (-1)), (0, .ref (ad 0)), (3, .int a3)]) hx hb dX6_findPlan_237 hl (by decide) rfl (fun ls hl => ?_)
    exact wX6_findPlan_239 C0 a3 (-1) 0 (σ6)  _ h Kb Ke0 _ _ _ (lv_sub hl [2, 3, 1, 0] rfl) G
set_option maxHeartbeats 400000 in
theorem lX6_findPlan_202 (C0 : Cx ad dc D RX6 cX6_findPlan 6 p s m args meth c)    : ∀ (n : Nat) (a3 : Int32) (σ : St) (ex : St) (h : iter (fun v : Int32 × St => bX6_findPlan_202 v.1 v.2) n (a3, σ) = some ex) (Ke0 : ∀  (σ' : St), ex = σ' → ∀ (H : Heap) (locs : List Loc) (ls : Array Slot), lv_has ls 6 [] → GW mSh mKs ad dc D A s σ' H locs → W p l e RmX6_findPlan s m args below meth c H locs 0 0 Q (F0 m 324 ls [])) (H : Heap) (locs : List Loc) (ls : Array Slot) (hl : lv_has ls 6 [(0, .ref (ad 0)), (3, .int a3)]) (G : GW mSh mKs ad dc D A s σ H locs), W p l e RmX6_findPlan s m args below meth c H locs 0 0 Q (F0 m 202 ls []) := by
  intro n
  induction n with
  | zero =>
    intro a3 σ ex h
    cases h
  | succ n ih =>
    intro a3 σ ex h Ke0 H locs ls hl G
    obtain ⟨r, hb1, hr⟩ := iter_e h
    refine wbX6_findPlan_202 C0 a3 σ  r hb1 ?_ ?_ H locs ls hl G
    · intro b3 σ' hv H locs ls hl G
      subst hv
      rcases hr with hr | ⟨a', hr, h2⟩
      · cases hr
      · rw [← Sum.inr.inj hr] at h2
        exact ih b3 σ' ex h2 Ke0 H locs ls hl G
    · intro σ' hv H locs ls hl G
      subst hv
      rcases hr with hr | ⟨a', hr, h2⟩
      · exact Ke0 σ' (Sum.inl.inj hr).symm H locs ls hl G
      · cases hr
set_option maxHeartbeats 400000 in
theorem wX6_findPlan_202 (C0 : Cx ad dc D RX6 cX6_findPlan 6 p s m args meth c) (a3 : Int32) (σ : St)  (o : St) (h : fX6_findPlan_202 a3 σ = some o) (Kr : KrV p l e RmX6_findPlan s m args below meth c cX6_findPlan Q (GW mSh mKs ad dc D A s o)) (H : Heap) (locs : List Loc) (ls : Array Slot) (hl : lv_has ls 6 [(0, .ref (ad 0)), (3, .int a3)]) (G : GW mSh mKs ad dc D A s σ H locs) : W p l e RmX6_findPlan s m args below meth c H locs 0 0 Q (F0 m 202 ls []) := by
  have hx := C0.1
  have hb := C0.2.1
  unfold fX6_findPlan_202 at h
  obtain ⟨ex, h1, h⟩ := bn1_e h
  refine lX6_findPlan_202 C0    FU a3 σ ex h1 ?_ H locs ls hl G
  · intro σ' hv H locs ls hl G
    rw [hv] at h
    have h : (some σ') = some o := h
    cases h
    exact Kr _ _ _ _ dX6_findPlan_324 G
set_option maxHeartbeats 400000 in
theorem wX6_findPlan_193 (C0 : Cx ad dc D RX6 cX6_findPlan 6 p s m args meth c) (a1 : Int32) (σ : St)  (o : St) (h : fX6_findPlan_193 a1 σ = some o) (Kr : KrV p l e RmX6_findPlan s m args below meth c cX6_findPlan Q (GW mSh mKs ad dc D A s o)) (H : Heap) (locs : List Loc) (ls : Array Slot) (hl : lv_has ls 6 [(0, .ref (ad 0)), (1, .int a1)]) (G : GW mSh mKs ad dc D A s σ H locs) : W p l e RmX6_findPlan s m args below meth c H locs 0 0 Q (F0 m 193 ls []) := by
  have hx := C0.1
  have hb := C0.2.1
  unfold fX6_findPlan_193 at h
  refine lv_aload_n hx hb dX6_findPlan_193 rfl (lv_at hl 0 rfl) ?_
  refine m_getC C0 G 62 (by decide) rfl q1576 dX6_findPlan_194 ?_
  refine lv_iconst (v := 0) hx hb dX6_findPlan_197 (by decide +kernel) ?_
  refine lv_iload_n hx hb dX6_findPlan_198 rfl (lv_at hl 1 rfl) ?_
  obtain ⟨b_1, h⟩ := ckB_e h
  refine g_iast C0 G (n := 7) (by decide) rfl b_1 dX6_findPlan_199 (fun σ2 H locs e_σ2 G => ?_)
  have h := letB_e h e_σ2
  refine lv_iconst (v := 0) hx hb dX6_findPlan_200 (by decide +kernel) ?_
  refine lv_istore_n (lv' := [(3, .int 0), (0, .ref (ad 0)), (1, .int a1)]) hx hb dX6_findPlan_201 rfl hl (by decide) rfl (fun ls hl => ?_)
  exact wX6_findPlan_202 C0 0 (σ2)  _ h Kr _ _ _ (lv_sub hl [1, 0] rfl) G
set_option maxHeartbeats 400000 in
theorem wbX6_findPlan_113 (C0 : Cx ad dc D RX6 cX6_findPlan 6 p s m args meth c) (a1 : Int32) (a3 : Int32) (σ : St)  (o : (St) ⊕ (Int32 × St)) (h : bX6_findPlan_113 a1 a3 σ = some o) (Kb : ∀ (b3 : Int32) (σ' : St), o = .inr (b3, σ') → ∀ (H : Heap) (locs : List Loc) (ls : Array Slot), lv_has ls 6 [(0, .ref (ad 0)), (1, .int a1), (3, .int b3)] → GW mSh mKs ad dc D A s σ' H locs → W p l e RmX6_findPlan s m args below meth c H locs 0 0 Q (F0 m 113 ls [])) (Ke0 : ∀  (σ' : St), o = .inl (σ') → ∀ (H : Heap) (locs : List Loc) (ls : Array Slot), lv_has ls 6 [(0, .ref (ad 0)), (1, .int a1)] → GW mSh mKs ad dc D A s σ' H locs → W p l e RmX6_findPlan s m args below meth c H locs 0 0 Q (F0 m 193 ls [])) (H : Heap) (locs : List Loc) (ls : Array Slot) (hl : lv_has ls 6 [(0, .ref (ad 0)), (1, .int a1), (3, .int a3)]) (G : GW mSh mKs ad dc D A s σ H locs) : W p l e RmX6_findPlan s m args below meth c H locs 0 0 Q (F0 m 113 ls []) := by
  have hx := C0.1
  have hb := C0.2.1
  unfold bX6_findPlan_113 at h
  refine lv_iload_n hx hb dX6_findPlan_113 rfl (lv_at hl 2 rfl) ?_
  refine lv_if_lt (tgt := 193) hx hb dX6_findPlan_114 (by decide) (fun c1 => ?_) (fun c1 => ?_)
  · have h := ite_t h c1
    cases h
    exact Ke0 (σ) rfl _ _ _ (lv_sub hl [0, 1] rfl) G
  · have h := ite_f h c1
    refine lv_iconst (v := 0) hx hb dX6_findPlan_117 (by decide +kernel) ?_
    refine lv_istore (lv' := [(4, .int 0), (0, .ref (ad 0)), (1, .int a1), (3, .int a3)]) hx hb dX6_findPlan_118 hl (by decide) rfl (fun ls hl => ?_)
    exact wX6_findPlan_120 C0 a1 a3 0 (σ)  _ h Kb Ke0 _ _ _ (lv_sub hl [1, 2, 3, 0] rfl) G
set_option maxHeartbeats 400000 in
theorem lX6_findPlan_113 (C0 : Cx ad dc D RX6 cX6_findPlan 6 p s m args meth c) (a1 : Int32)   : ∀ (n : Nat) (a3 : Int32) (σ : St) (ex : St) (h : iter (fun v : Int32 × St => bX6_findPlan_113 a1 v.1 v.2) n (a3, σ) = some ex) (Ke0 : ∀  (σ' : St), ex = σ' → ∀ (H : Heap) (locs : List Loc) (ls : Array Slot), lv_has ls 6 [(0, .ref (ad 0)), (1, .int a1)] → GW mSh mKs ad dc D A s σ' H locs → W p l e RmX6_findPlan s m args below meth c H locs 0 0 Q (F0 m 193 ls [])) (H : Heap) (locs : List Loc) (ls : Array Slot) (hl : lv_has ls 6 [(0, .ref (ad 0)), (1, .int a1), (3, .int a3)]) (G : GW mSh mKs ad dc D A s σ H locs), W p l e RmX6_findPlan s m args below meth c H locs 0 0 Q (F0 m 113 ls []) := by
  intro n
  induction n with
  | zero =>
    intro a3 σ ex h
    cases h
  | succ n ih =>
    intro a3 σ ex h Ke0 H locs ls hl G
    obtain ⟨r, hb1, hr⟩ := iter_e h
    refine wbX6_findPlan_113 C0 a1 a3 σ  r hb1 ?_ ?_ H locs ls hl G
    · intro b3 σ' hv H locs ls hl G
      subst hv
      rcases hr with hr | ⟨a', hr, h2⟩
      · cases hr
      · rw [← Sum.inr.inj hr] at h2
        exact ih b3 σ' ex h2 Ke0 H locs ls hl G
    · intro σ' hv H locs ls hl G
      subst hv
      rcases hr with hr | ⟨a', hr, h2⟩
      · exact Ke0 σ' (Sum.inl.inj hr).symm H locs ls hl G
      · cases hr
set_option maxHeartbeats 400000 in
theorem wX6_findPlan_113 (C0 : Cx ad dc D RX6 cX6_findPlan 6 p s m args meth c) (a1 : Int32) (a3 : Int32) (σ : St)  (o : St) (h : fX6_findPlan_113 a1 a3 σ = some o) (Kr : KrV p l e RmX6_findPlan s m args below meth c cX6_findPlan Q (GW mSh mKs ad dc D A s o)) (H : Heap) (locs : List Loc) (ls : Array Slot) (hl : lv_has ls 6 [(0, .ref (ad 0)), (1, .int a1), (3, .int a3)]) (G : GW mSh mKs ad dc D A s σ H locs) : W p l e RmX6_findPlan s m args below meth c H locs 0 0 Q (F0 m 113 ls []) := by
  have hx := C0.1
  have hb := C0.2.1
  unfold fX6_findPlan_113 at h
  obtain ⟨ex, h1, h⟩ := bn1_e h
  refine lX6_findPlan_113 C0 a1   FU a3 σ ex h1 ?_ H locs ls hl G
  · intro σ' hv H locs ls hl G
    rw [hv] at h
    have h : (fX6_findPlan_193 a1 (σ')) = some o := h
    exact wX6_findPlan_193 C0 a1 (σ')  _ h Kr _ _ _ hl G
set_option maxHeartbeats 400000 in
theorem wX6_findPlan_94 (C0 : Cx ad dc D RX6 cX6_findPlan 6 p s m args meth c) (a1 : Int32) (a2 : Int32) (σ : St)  (o : St) (h : fX6_findPlan_94 a1 a2 σ = some o) (Kr : KrV p l e RmX6_findPlan s m args below meth c cX6_findPlan Q (GW mSh mKs ad dc D A s o)) (H : Heap) (locs : List Loc) (ls : Array Slot) (hl : lv_has ls 6 [(0, .ref (ad 0)), (1, .int a1), (2, .int a2)]) (G : GW mSh mKs ad dc D A s σ H locs) : W p l e RmX6_findPlan s m args below meth c H locs 0 0 Q (F0 m 94 ls []) := by
  have hx := C0.1
  have hb := C0.2.1
  unfold fX6_findPlan_94 at h
  refine lv_aload_n hx hb dX6_findPlan_94 rfl (lv_at hl 0 rfl) ?_
  refine m_getC C0 G 54 (by decide) rfl q1568 dX6_findPlan_95 ?_
  refine lv_iload_n hx hb dX6_findPlan_98 rfl (lv_at hl 2 rfl) ?_
  refine lv_iconst (v := 1) hx hb dX6_findPlan_99 (by decide +kernel) ?_
  refine lv_aload_n hx hb dX6_findPlan_100 rfl (lv_at hl 0 rfl) ?_
  refine m_getI C0 G 60 (by decide) rfl q1574 dX6_findPlan_101 ?_
  refine lv_ishl hx hb dX6_findPlan_104 ?_
  obtain ⟨b_1, h⟩ := ckB_e h
  refine g_iast C0 G (n := 59049) (by decide) rfl b_1 dX6_findPlan_105 (fun σ2 H locs e_σ2 G => ?_)
  have h := letB_e h e_σ2
  refine lv_aload_n hx hb dX6_findPlan_106 rfl (lv_at hl 0 rfl) ?_
  refine m_getI C0 G 60 (by decide) rfl q1574 dX6_findPlan_107 ?_
  refine lv_iconst (v := 1) hx hb dX6_findPlan_110 (by decide +kernel) ?_
  refine lv_isub hx hb dX6_findPlan_111 ?_
  refine lv_topi (fun x3 e_x3 => ?_)
  have h := letB_e h e_x3
  refine lv_istore_n (lv' := [(3, .int x3), (0, .ref (ad 0)), (1, .int a1), (2, .int a2)]) hx hb dX6_findPlan_112 rfl hl (by decide) rfl (fun ls hl => ?_)
  exact wX6_findPlan_113 C0 a1 x3 (σ2)  _ h Kr _ _ _ (lv_sub hl [1, 2, 0] rfl) G
set_option maxHeartbeats 400000 in
theorem wbX6_findPlan_75 (C0 : Cx ad dc D RX6 cX6_findPlan 6 p s m args meth c) (a1 : Int32) (a2 : Int32) (a3 : Int32) (σ : St)  (o : (St) ⊕ (Int32 × St)) (h : bX6_findPlan_75 a1 a2 a3 σ = some o) (Kb : ∀ (b3 : Int32) (σ' : St), o = .inr (b3, σ') → ∀ (H : Heap) (locs : List Loc) (ls : Array Slot), lv_has ls 6 [(0, .ref (ad 0)), (1, .int a1), (2, .int a2), (3, .int b3)] → GW mSh mKs ad dc D A s σ' H locs → W p l e RmX6_findPlan s m args below meth c H locs 0 0 Q (F0 m 75 ls [])) (Ke0 : ∀  (σ' : St), o = .inl (σ') → ∀ (H : Heap) (locs : List Loc) (ls : Array Slot), lv_has ls 6 [(0, .ref (ad 0)), (1, .int a1), (2, .int a2)] → GW mSh mKs ad dc D A s σ' H locs → W p l e RmX6_findPlan s m args below meth c H locs 0 0 Q (F0 m 94 ls [])) (H : Heap) (locs : List Loc) (ls : Array Slot) (hl : lv_has ls 6 [(0, .ref (ad 0)), (1, .int a1), (2, .int a2), (3, .int a3)]) (G : GW mSh mKs ad dc D A s σ H locs) : W p l e RmX6_findPlan s m args below meth c H locs 0 0 Q (F0 m 75 ls []) := by
  have hx := C0.1
  have hb := C0.2.1
  unfold bX6_findPlan_75 at h
  refine lv_iload_n hx hb dX6_findPlan_75 rfl (lv_at hl 3 rfl) ?_
  refine lv_aload_n hx hb dX6_findPlan_76 rfl (lv_at hl 0 rfl) ?_
  refine m_getI C0 G 60 (by decide) rfl q1574 dX6_findPlan_77 ?_
  refine lv_icmp_ge (tgt := 94) hx hb dX6_findPlan_80 (by decide) (fun c1 => ?_) (fun c1 => ?_)
  · have h := ite_t h c1
    cases h
    exact Ke0 (σ) rfl _ _ _ (lv_sub hl [0, 1, 2] rfl) G
  · have h := ite_f h c1
    refine lv_aload_n hx hb dX6_findPlan_83 rfl (lv_at hl 0 rfl) ?_
    refine lv_iload_n hx hb dX6_findPlan_84 rfl (lv_at hl 3 rfl) ?_
    obtain ⟨σ3, h_r2, h⟩ := bn1_e h
    refine g_callVv (rest := []) C0 G hl (ci := 6) rfl (by decide) rfl (kX6_chooseCell (l := l) C0.2.2.2.2.2.2.1 G.2.2.2 h_r2) (cwV 1 C0.2.2.2.2.1 (lw_V q2071 q2073 qs100 q114 q2074) rfl rfl rfl hdX6_chooseCell ⟨Nat.le_of_ble_eq_true rfl, Nat.le_of_ble_eq_true rfl⟩) rfl (Nat.le_of_ble_eq_true rfl) dX6_findPlan_85 ⟨Nat.zero_le _, Nat.zero_le _⟩ (fun H locs G => ?_)
    obtain ⟨x4, e_x4⟩ : ∃ z : Int32, z = a3 + 1 := ⟨_, rfl⟩
    have h := letB_e h e_x4
    refine lv_iinc (v := x4) (lv' := [(3, .int x4), (0, .ref (ad 0)), (1, .int a1), (2, .int a2)]) hx hb dX6_findPlan_88 hl (k := 3) rfl ((congrArg (fun z => a3 + z) (show Int32.ofInt 1 = 1 by decide)).trans e_x4.symm) (by decide) rfl (fun ls hl => ?_)
    refine lv_goto (tgt := 75) hx hb dX6_findPlan_91 (by decide) ?_
    cases h
    exact Kb x4 (σ3) rfl _ _ _ (lv_sub hl [1, 2, 3, 0] rfl) G
set_option maxHeartbeats 400000 in
theorem lX6_findPlan_75 (C0 : Cx ad dc D RX6 cX6_findPlan 6 p s m args meth c) (a1 : Int32) (a2 : Int32)   : ∀ (n : Nat) (a3 : Int32) (σ : St) (ex : St) (h : iter (fun v : Int32 × St => bX6_findPlan_75 a1 a2 v.1 v.2) n (a3, σ) = some ex) (Ke0 : ∀  (σ' : St), ex = σ' → ∀ (H : Heap) (locs : List Loc) (ls : Array Slot), lv_has ls 6 [(0, .ref (ad 0)), (1, .int a1), (2, .int a2)] → GW mSh mKs ad dc D A s σ' H locs → W p l e RmX6_findPlan s m args below meth c H locs 0 0 Q (F0 m 94 ls [])) (H : Heap) (locs : List Loc) (ls : Array Slot) (hl : lv_has ls 6 [(0, .ref (ad 0)), (1, .int a1), (2, .int a2), (3, .int a3)]) (G : GW mSh mKs ad dc D A s σ H locs), W p l e RmX6_findPlan s m args below meth c H locs 0 0 Q (F0 m 75 ls []) := by
  intro n
  induction n with
  | zero =>
    intro a3 σ ex h
    cases h
  | succ n ih =>
    intro a3 σ ex h Ke0 H locs ls hl G
    obtain ⟨r, hb1, hr⟩ := iter_e h
    refine wbX6_findPlan_75 C0 a1 a2 a3 σ  r hb1 ?_ ?_ H locs ls hl G
    · intro b3 σ' hv H locs ls hl G
      subst hv
      rcases hr with hr | ⟨a', hr, h2⟩
      · cases hr
      · rw [← Sum.inr.inj hr] at h2
        exact ih b3 σ' ex h2 Ke0 H locs ls hl G
    · intro σ' hv H locs ls hl G
      subst hv
      rcases hr with hr | ⟨a', hr, h2⟩
      · exact Ke0 σ' (Sum.inl.inj hr).symm H locs ls hl G
      · cases hr
set_option maxHeartbeats 400000 in
theorem wX6_findPlan_75 (C0 : Cx ad dc D RX6 cX6_findPlan 6 p s m args meth c) (a1 : Int32) (a2 : Int32) (a3 : Int32) (σ : St)  (o : St) (h : fX6_findPlan_75 a1 a2 a3 σ = some o) (Kr : KrV p l e RmX6_findPlan s m args below meth c cX6_findPlan Q (GW mSh mKs ad dc D A s o)) (H : Heap) (locs : List Loc) (ls : Array Slot) (hl : lv_has ls 6 [(0, .ref (ad 0)), (1, .int a1), (2, .int a2), (3, .int a3)]) (G : GW mSh mKs ad dc D A s σ H locs) : W p l e RmX6_findPlan s m args below meth c H locs 0 0 Q (F0 m 75 ls []) := by
  have hx := C0.1
  have hb := C0.2.1
  unfold fX6_findPlan_75 at h
  obtain ⟨ex, h1, h⟩ := bn1_e h
  refine lX6_findPlan_75 C0 a1 a2   FU a3 σ ex h1 ?_ H locs ls hl G
  · intro σ' hv H locs ls hl G
    rw [hv] at h
    have h : (fX6_findPlan_94 a1 a2 (σ')) = some o := h
    exact wX6_findPlan_94 C0 a1 a2 (σ')  _ h Kr _ _ _ hl G
set_option maxHeartbeats 400000 in
theorem wX6_findPlan_0 (C0 : Cx ad dc D RX6 cX6_findPlan 6 p s m args meth c) (σ : St)  (o : St) (h : fX6_findPlan σ = some o) (Kr : KrV p l e RmX6_findPlan s m args below meth c cX6_findPlan Q (GW mSh mKs ad dc D A s o)) (H : Heap) (locs : List Loc) (ls : Array Slot) (hl : lv_has ls 6 [(0, .ref (ad 0))]) (G : GW mSh mKs ad dc D A s σ H locs) : W p l e RmX6_findPlan s m args below meth c H locs 0 0 Q (F0 m 0 ls []) := by
  have hx := C0.1
  have hb := C0.2.1
  unfold fX6_findPlan at h
  refine lv_aload_n hx hb dX6_findPlan_0 rfl (lv_at hl 0 rfl) ?_
  refine m_getI C0 G 60 (by decide) rfl q1574 dX6_findPlan_1 ?_
  refine lv_bipush (v := (-2)) hx hb dX6_findPlan_4 (by decide +kernel) ?_
  refine lv_icmp_eq (tgt := 10) hx hb dX6_findPlan_6 (by decide) (fun c1 => ?_) (fun c1 => ?_)
  · have h := ite_t h c1
    refine lv_aload_n hx hb dX6_findPlan_10 rfl (lv_at hl 0 rfl) ?_
    obtain ⟨σ3, h_r2, h⟩ := bn1_e h
    refine g_callVv (rest := []) C0 G hl (ci := 6) rfl (by decide) rfl (kX6_findWeights (l := l) C0.2.2.2.2.2.2.1 G.2.2.2 h_r2) (cwV 0 C0.2.2.2.2.1 (lw_V q2027 q2029 qs90 q114 q2030) rfl rfl rfl hdX6_findWeights ⟨Nat.le_of_ble_eq_true rfl, Nat.le_of_ble_eq_true rfl⟩) rfl (Nat.le_of_ble_eq_true rfl) dX6_findPlan_11 ⟨Nat.zero_le _, Nat.zero_le _⟩ (fun H locs G => ?_)
    refine lv_aload_n hx hb dX6_findPlan_14 rfl (lv_at hl 0 rfl) ?_
    refine lv_iconst (v := (-1)) hx hb dX6_findPlan_15 (by decide +kernel) ?_
    refine m_putI C0 G 59 (by decide) rfl q1573 rfl dX6_findPlan_16 ⟨rfl, rfl⟩ (fun σ4 H locs e_σ4 G => ?_)
    have h := letB_e h e_σ4
    refine lv_aload_n hx hb dX6_findPlan_19 rfl (lv_at hl 0 rfl) ?_
    refine lv_bipush (v := 20) hx hb dX6_findPlan_20 (by decide +kernel) ?_
    obtain ⟨r5, h_r5, h⟩ := bn1_e h
    refine g_callVi (rest := []) C0 G hl (ci := 6) rfl (by decide) rfl (kX6_rowAt (l := l) C0.2.2.2.2.2.2.1 G.2.2.2 h_r5) (cwV 1 C0.2.2.2.2.1 (lw_V q2031 q2033 qs91 q114 q2034) rfl rfl rfl hdX6_rowAt ⟨Nat.le_of_ble_eq_true rfl, Nat.le_of_ble_eq_true rfl⟩) rfl (Nat.le_of_ble_eq_true rfl) dX6_findPlan_22 ⟨Nat.zero_le _, Nat.zero_le _⟩ (fun H locs G => ?_)
    refine lv_istore_n (lv' := [(1, .int r5), (0, .ref (ad 0))]) hx hb dX6_findPlan_25 rfl hl (by decide) rfl (fun ls hl => ?_)
    refine lv_aload_n hx hb dX6_findPlan_26 rfl (lv_at hl 1 rfl) ?_
    refine lv_bipush (v := 30) hx hb dX6_findPlan_27 (by decide +kernel) ?_
    obtain ⟨r6, h_r6, h⟩ := bn1_e h
    refine g_callVi (rest := []) C0 G hl (ci := 6) rfl (by decide) rfl (kX6_rowAt (l := l) C0.2.2.2.2.2.2.1 G.2.2.2 h_r6) (cwV 1 C0.2.2.2.2.1 (lw_V q2031 q2033 qs91 q114 q2034) rfl rfl rfl hdX6_rowAt ⟨Nat.le_of_ble_eq_true rfl, Nat.le_of_ble_eq_true rfl⟩) rfl (Nat.le_of_ble_eq_true rfl) dX6_findPlan_29 ⟨Nat.zero_le _, Nat.zero_le _⟩ (fun H locs G => ?_)
    refine lv_istore_n (lv' := [(2, .int r6), (1, .int r5), (0, .ref (ad 0))]) hx hb dX6_findPlan_32 rfl hl (by decide) rfl (fun ls hl => ?_)
    refine lv_aload_n hx hb dX6_findPlan_33 rfl (lv_at hl 2 rfl) ?_
    refine lv_aload_n hx hb dX6_findPlan_34 rfl (lv_at hl 2 rfl) ?_
    refine lv_iload_n hx hb dX6_findPlan_35 rfl (lv_at hl 1 rfl) ?_
    refine lv_aload_n hx hb dX6_findPlan_36 rfl (lv_at hl 2 rfl) ?_
    refine m_getC C0 G 3 (by decide) rfl q1517 dX6_findPlan_37 ?_
    refine lv_bipush (v := 10) hx hb dX6_findPlan_40 (by decide +kernel) ?_
    obtain ⟨b_7, h⟩ := ckB_e h
    refine g_iald C0 G (n := 8060) (by decide) rfl b_7 dX6_findPlan_42 ?_
    refine lv_iload_n hx hb dX6_findPlan_43 rfl (lv_at hl 0 rfl) ?_
    refine lv_bipush (v := 6) hx hb dX6_findPlan_44 (by decide +kernel) ?_
    obtain ⟨r8, σ9, h_r8, h⟩ := bn2_e h
    refine g_callVi (rest := [.ref (ad 0)]) C0 G hl (ci := 6) rfl (by decide) rfl (kX6_findLevels (l := l) C0.2.2.2.2.2.2.1 G.2.2.2 h_r8) (cwV 4 C0.2.2.2.2.1 (lw_V q2035 q2037 qs92 q114 q2038) rfl rfl rfl hdX6_findLevels ⟨Nat.le_of_ble_eq_true rfl, Nat.le_of_ble_eq_true rfl⟩) rfl (Nat.le_of_ble_eq_true rfl) dX6_findPlan_46 ⟨Nat.zero_le _, Nat.zero_le _⟩ (fun H locs G => ?_)
    refine m_putI C0 G 60 (by decide) rfl q1574 rfl dX6_findPlan_49 ⟨rfl, rfl⟩ (fun σ10 H locs e_σ10 G => ?_)
    have h := letB_e h e_σ10
    refine lv_aload_n hx hb dX6_findPlan_52 rfl (lv_at hl 2 rfl) ?_
    refine m_getI C0 G 60 (by decide) rfl q1574 dX6_findPlan_53 ?_
    refine lv_iconst (v := (-1)) hx hb dX6_findPlan_56 (by decide +kernel) ?_
    refine lv_icmp_ne (tgt := 61) hx hb dX6_findPlan_57 (by decide) (fun c11 => ?_) (fun c11 => ?_)
    · have h := ite_f h c11
      refine lv_aload_n hx hb dX6_findPlan_61 rfl (lv_at hl 2 rfl) ?_
      refine lv_iload_n hx hb dX6_findPlan_62 rfl (lv_at hl 0 rfl) ?_
      obtain ⟨σ13, h_r12, h⟩ := bn1_e h
      refine g_callVv (rest := []) C0 G hl (ci := 6) rfl (by decide) rfl (kX6_findToGo (l := l) C0.2.2.2.2.2.2.1 G.2.2.2 h_r12) (cwV 1 C0.2.2.2.2.1 (lw_V q2063 q2065 qs98 q114 q2066) rfl rfl rfl hdX6_findToGo ⟨Nat.le_of_ble_eq_true rfl, Nat.le_of_ble_eq_true rfl⟩) rfl (Nat.le_of_ble_eq_true rfl) dX6_findPlan_63 ⟨Nat.zero_le _, Nat.zero_le _⟩ (fun H locs G => ?_)
      refine lv_aload_n hx hb dX6_findPlan_66 rfl (lv_at hl 2 rfl) ?_
      refine m_getC C0 G 53 (by decide) rfl q1567 dX6_findPlan_67 ?_
      refine lv_iload_n hx hb dX6_findPlan_70 rfl (lv_at hl 1 rfl) ?_
      refine lv_iconst (v := 1) hx hb dX6_findPlan_71 (by decide +kernel) ?_
      obtain ⟨b_14, h⟩ := ckB_e h
      refine g_iast C0 G (n := 59049) (by decide) rfl b_14 dX6_findPlan_72 (fun σ15 H locs e_σ15 G => ?_)
      have h := letB_e h e_σ15
      refine lv_iconst (v := 0) hx hb dX6_findPlan_73 (by decide +kernel) ?_
      refine lv_istore_n (lv' := [(3, .int 0), (2, .int r6), (1, .int r5), (0, .ref (ad 0))]) hx hb dX6_findPlan_74 rfl hl (by decide) rfl (fun ls hl => ?_)
      exact wX6_findPlan_75 C0 r5 r6 0 (σ15)  _ h Kr _ _ _ (lv_sub hl [3, 2, 1, 0] rfl) G
    · have h := ite_t h c11
      cases h
      exact Kr _ _ _ _ dX6_findPlan_60 G
  · have h := ite_f h c1
    cases h
    exact Kr _ _ _ _ dX6_findPlan_9 G
theorem kX6_findPlan {l : Launch} {ad : Nat → Nat} {dc : Nat → ClassId} {D : va_G} {A : Nat → Prop}  (hi : ∀ i j, ad i = ad j → i = j) (hA : ∀ k, k ∈ mKs → A (ad k)) {σ : St}   {σ' : St}  (h : fX6_findPlan σ = some (σ')) : Met l yX6_findPlan (ws_ yX6_findPlan cX6_findPlan 6 none) RmX6_findPlan (gPc mSh mKs ad dc D σ [.ref (ad 0)]) (gQv mSh mKs ad dc D A σ') 0 0 A :=
  g_metV (by decide) rfl hi mKs_nd hA (Nat.le_of_ble_eq_true rfl) (fun p e s m below meth c Q C0 Kr ls hl G => wX6_findPlan_0 C0  σ  (σ') h Kr _ _ ls hl G)
-- X6_heats
abbrev RmX6_heats : Room := { frames := 7, cells := 0, slots := 0, locals := 176 }
theorem hdX6_heats : yX6_heats.cls = RX6 ∧ yX6_heats.cls ≠ "java/lang/invoke/MethodHandle" ∧ yX6_heats.cls ≠ "java/lang/invoke/VarHandle" ∧ (parseMethodDescriptor yX6_heats.desc).map (fun d => d.parameters.length) = some 0 := by decide +kernel
set_option maxHeartbeats 400000 in
theorem wX6_heats_0 (C0 : Cx ad dc D RX6 cX6_heats 1 p s m args meth c) (σ : St)  (o : Int32 × St) (h : fX6_heats σ = some o) (Kr : KrI p l e RmX6_heats s m args below meth c cX6_heats Q (GW mSh mKs ad dc D A s (o.2)) o.1) (H : Heap) (locs : List Loc) (ls : Array Slot) (hl : lv_has ls 1 [(0, .ref (ad 0))]) (G : GW mSh mKs ad dc D A s σ H locs) : W p l e RmX6_heats s m args below meth c H locs 0 0 Q (F0 m 0 ls []) := by
  have hx := C0.1
  have hb := C0.2.1
  unfold fX6_heats at h
  refine lv_aload_n hx hb dX6_heats_0 rfl (lv_at hl 0 rfl) ?_
  refine lv_iconst (v := 0) hx hb dX6_heats_1 (by decide +kernel) ?_
  refine m_putI C0 G 0 (by decide) rfl q1514 rfl dX6_heats_2 ⟨rfl, rfl⟩ (fun σ1 H locs e_σ1 G => ?_)
  have h := letB_e h e_σ1
  refine lv_aload_n hx hb dX6_heats_5 rfl (lv_at hl 0 rfl) ?_
  obtain ⟨σ3, h_r2, h⟩ := bn1_e h
  refine g_callVv (rest := []) C0 G hl (ci := 6) rfl (by decide) rfl (kX6_findPlan (l := l) C0.2.2.2.2.2.2.1 G.2.2.2 h_r2) (cwV 0 C0.2.2.2.2.1 (lw_V q2059 q2061 qs97 q114 q2062) rfl rfl rfl hdX6_findPlan ⟨Nat.le_of_ble_eq_true rfl, Nat.le_of_ble_eq_true rfl⟩) rfl (Nat.le_of_ble_eq_true rfl) dX6_heats_6 ⟨Nat.zero_le _, Nat.zero_le _⟩ (fun H locs G => ?_)
  refine lv_aload_n hx hb dX6_heats_9 rfl (lv_at hl 0 rfl) ?_
  refine m_getI C0 G 60 (by decide) rfl q1574 dX6_heats_10 ?_
  cases h
  exact Kr _ _ _ _ dX6_heats_13 G
theorem kX6_heats {l : Launch} {ad : Nat → Nat} {dc : Nat → ClassId} {D : va_G} {A : Nat → Prop}  (hi : ∀ i j, ad i = ad j → i = j) (hA : ∀ k, k ∈ mKs → A (ad k)) {σ : St}  {r : Int32} {σ' : St}  (h : fX6_heats σ = some (r, σ')) : Met l yX6_heats (ws_ yX6_heats cX6_heats 1 (some .int)) RmX6_heats (gPc mSh mKs ad dc D σ [.ref (ad 0)]) (gQi mSh mKs ad dc D A σ' r) 0 0 A :=
  g_metI (by decide) rfl hi mKs_nd hA (Nat.le_of_ble_eq_true rfl) (fun p e s m below meth c Q C0 Kr ls hl G => wX6_heats_0 C0  σ  (r, σ') h Kr _ _ ls hl G)
-- X6_plan
abbrev RmX6_plan : Room := { frames := 7, cells := 0, slots := 0, locals := 176 }
theorem hdX6_plan : yX6_plan.cls = RX6 ∧ yX6_plan.cls ≠ "java/lang/invoke/MethodHandle" ∧ yX6_plan.cls ≠ "java/lang/invoke/VarHandle" ∧ (parseMethodDescriptor yX6_plan.desc).map (fun d => d.parameters.length) = some 2 := by decide +kernel
set_option maxHeartbeats 400000 in
theorem wX6_plan_41 (C0 : Cx ad dc D RX6 cX6_plan 3 p s m args meth c) (a1 : Int32) (a2 : Int32) (σ : St)  (o : Int32 × St) (h : fX6_plan_41 a1 a2 σ = some o) (Kr : KrI p l e RmX6_plan s m args below meth c cX6_plan Q (GW mSh mKs ad dc D A s (o.2)) o.1) (H : Heap) (locs : List Loc) (ls : Array Slot) (hl : lv_has ls 3 [(0, .ref (ad 0)), (1, .int a1), (2, .int a2)]) (G : GW mSh mKs ad dc D A s σ H locs) : W p l e RmX6_plan s m args below meth c H locs 0 0 Q (F0 m 41 ls []) := by
  have hx := C0.1
  have hb := C0.2.1
  unfold fX6_plan_41 at h
  refine lv_iload_n hx hb dX6_plan_41 rfl (lv_at hl 2 rfl) ?_
  refine lv_iconst (v := (-1)) hx hb dX6_plan_42 (by decide +kernel) ?_
  refine lv_icmp_ne (tgt := 55) hx hb dX6_plan_43 (by decide) (fun c1 => ?_) (fun c1 => ?_)
  · have h := ite_f h c1
    refine lv_aload_n hx hb dX6_plan_55 rfl (lv_at hl 0 rfl) ?_
    refine lv_aload_n hx hb dX6_plan_56 rfl (lv_at hl 0 rfl) ?_
    refine m_getC C0 G 62 (by decide) rfl q1576 dX6_plan_57 ?_
    refine lv_iload_n hx hb dX6_plan_60 rfl (lv_at hl 1 rfl) ?_
    refine lv_iconst (v := 1) hx hb dX6_plan_61 (by decide +kernel) ?_
    refine lv_iadd hx hb dX6_plan_62 ?_
    obtain ⟨b_2, h⟩ := ckB_e h
    refine g_iald C0 G (n := 7) (by decide) rfl b_2 dX6_plan_63 ?_
    refine lv_iload_n hx hb dX6_plan_64 rfl (lv_at hl 2 rfl) ?_
    obtain ⟨r3, h_r3, h⟩ := bn1_e h
    refine g_callVi (rest := []) C0 G hl (ci := 6) rfl (by decide) rfl (kX6_ironOf (l := l) C0.2.2.2.2.2.2.1 G.2.2.2 h_r3) (cwV 2 C0.2.2.2.2.1 (lw_V q2043 q2045 qs94 q114 q2046) rfl rfl rfl hdX6_ironOf ⟨Nat.le_of_ble_eq_true rfl, Nat.le_of_ble_eq_true rfl⟩) rfl (Nat.le_of_ble_eq_true rfl) dX6_plan_65 ⟨Nat.zero_le _, Nat.zero_le _⟩ (fun H locs G => ?_)
    cases h
    exact Kr _ _ _ _ dX6_plan_68 G
  · have h := ite_t h c1
    refine lv_aload_n hx hb dX6_plan_46 rfl (lv_at hl 0 rfl) ?_
    refine m_getC C0 G 61 (by decide) rfl q1575 dX6_plan_47 ?_
    refine lv_iload_n hx hb dX6_plan_50 rfl (lv_at hl 1 rfl) ?_
    obtain ⟨b_4, h⟩ := ckB_e h
    refine g_iald C0 G (n := 7) (by decide) rfl b_4 dX6_plan_51 ?_
    refine lv_goto (tgt := 68) hx hb dX6_plan_52 (by decide) ?_
    cases h
    exact Kr _ _ _ _ dX6_plan_68 G
set_option maxHeartbeats 400000 in
theorem wX6_plan_0 (C0 : Cx ad dc D RX6 cX6_plan 3 p s m args meth c) (a1 : Int32) (a2 : Int32) (σ : St)  (o : Int32 × St) (h : fX6_plan a1 a2 σ = some o) (Kr : KrI p l e RmX6_plan s m args below meth c cX6_plan Q (GW mSh mKs ad dc D A s (o.2)) o.1) (H : Heap) (locs : List Loc) (ls : Array Slot) (hl : lv_has ls 3 [(0, .ref (ad 0)), (1, .int a1), (2, .int a2)]) (G : GW mSh mKs ad dc D A s σ H locs) : W p l e RmX6_plan s m args below meth c H locs 0 0 Q (F0 m 0 ls []) := by
  have hx := C0.1
  have hb := C0.2.1
  unfold fX6_plan at h
  refine lv_aload_n hx hb dX6_plan_0 rfl (lv_at hl 0 rfl) ?_
  refine lv_iconst (v := 0) hx hb dX6_plan_1 (by decide +kernel) ?_
  refine m_putI C0 G 0 (by decide) rfl q1514 rfl dX6_plan_2 ⟨rfl, rfl⟩ (fun σ1 H locs e_σ1 G => ?_)
  have h := letB_e h e_σ1
  refine lv_aload_n hx hb dX6_plan_5 rfl (lv_at hl 0 rfl) ?_
  obtain ⟨σ3, h_r2, h⟩ := bn1_e h
  refine g_callVv (rest := []) C0 G hl (ci := 6) rfl (by decide) rfl (kX6_findPlan (l := l) C0.2.2.2.2.2.2.1 G.2.2.2 h_r2) (cwV 0 C0.2.2.2.2.1 (lw_V q2059 q2061 qs97 q114 q2062) rfl rfl rfl hdX6_findPlan ⟨Nat.le_of_ble_eq_true rfl, Nat.le_of_ble_eq_true rfl⟩) rfl (Nat.le_of_ble_eq_true rfl) dX6_plan_6 ⟨Nat.zero_le _, Nat.zero_le _⟩ (fun H locs G => ?_)
  refine lv_iload_n hx hb dX6_plan_9 rfl (lv_at hl 1 rfl) ?_
  refine lv_i2l hx hb dX6_plan_10 rfl ?_
  refine lv_lconst (v := 0) hx hb dX6_plan_11 (by decide) ?_
  refine lv_aload_n hx hb dX6_plan_12 rfl (lv_at hl 0 rfl) ?_
  refine m_getI C0 G 60 (by decide) rfl q1574 dX6_plan_13 ?_
  refine lv_i2l hx hb dX6_plan_16 rfl ?_
  refine lv_lconst (v := 1) hx hb dX6_plan_17 (by decide) ?_
  refine lv_lsub hx hb dX6_plan_18 ?_
  obtain ⟨r4, h_r4, h⟩ := bn1_e h
  refine g_callSi (rest := []) C0 G hl (kX6_in (l := l) C0.2.2.2.2.2.2.1 G.2.2.2 h_r4) (va_cwS 3 C0.2.2.2.2.1 (lw_S q1721 q1722 q114 q1723) rfl rfl rfl hdX6_in ⟨Nat.le_of_ble_eq_true rfl, Nat.le_of_ble_eq_true rfl⟩) rfl (Nat.le_of_ble_eq_true rfl) dX6_plan_19 ⟨Nat.zero_le _, Nat.zero_le _⟩ (fun H locs G => ?_)
  refine lv_if_eq (tgt := 39) hx hb dX6_plan_22 (by decide) (fun c5 => ?_) (fun c5 => ?_)
  · have h := ite_t h c5
    refine lv_iconst (v := (-1)) hx hb dX6_plan_39 (by decide +kernel) ?_
    cases h
    exact Kr _ _ _ _ dX6_plan_40 G
  · have h := ite_f h c5
    refine lv_iload_n hx hb dX6_plan_25 rfl (lv_at hl 2 rfl) ?_
    refine lv_iconst (v := (-1)) hx hb dX6_plan_26 (by decide +kernel) ?_
    refine lv_icmp_eq (tgt := 41) hx hb dX6_plan_27 (by decide) (fun c6 => ?_) (fun c6 => ?_)
    · have h := ite_t h c6
      exact wX6_plan_41 C0 a1 a2 (σ3)  _ h Kr _ _ _ hl G
    · have h := ite_f h c6
      refine lv_aload_n hx hb dX6_plan_30 rfl (lv_at hl 0 rfl) ?_
      refine lv_iload_n hx hb dX6_plan_31 rfl (lv_at hl 2 rfl) ?_
      refine lv_i2l hx hb dX6_plan_32 rfl ?_
      obtain ⟨r7, h_r7, h⟩ := bn1_e h
      refine g_callVi (rest := []) C0 G hl (ci := 6) rfl (by decide) rfl (kX6_isCell (l := l) C0.2.2.2.2.2.2.1 G.2.2.2 h_r7) (cwV 1 C0.2.2.2.2.1 (lw_V q1750 q1752 qs52 q114 q1753) rfl rfl rfl hdX6_isCell ⟨Nat.le_of_ble_eq_true rfl, Nat.le_of_ble_eq_true rfl⟩) rfl (Nat.le_of_ble_eq_true rfl) dX6_plan_33 ⟨Nat.zero_le _, Nat.zero_le _⟩ (fun H locs G => ?_)
      refine lv_if_ne (tgt := 41) hx hb dX6_plan_36 (by decide) (fun c8 => ?_) (fun c8 => ?_)
      · have h := ite_f h c8
        exact wX6_plan_41 C0 a1 a2 (σ3)  _ h Kr _ _ _ hl G
      · have h := ite_t h c8
        refine lv_iconst (v := (-1)) hx hb dX6_plan_39 (by decide +kernel) ?_
        cases h
        exact Kr _ _ _ _ dX6_plan_40 G
theorem kX6_plan {l : Launch} {ad : Nat → Nat} {dc : Nat → ClassId} {D : va_G} {A : Nat → Prop}  (hi : ∀ i j, ad i = ad j → i = j) (hA : ∀ k, k ∈ mKs → A (ad k)) {σ : St} {a1 : Int32} {a2 : Int32} {r : Int32} {σ' : St}  (h : fX6_plan a1 a2 σ = some (r, σ')) : Met l yX6_plan (ws_ yX6_plan cX6_plan 3 (some .int)) RmX6_plan (gPc mSh mKs ad dc D σ [.ref (ad 0), .int a1, .int a2]) (gQi mSh mKs ad dc D A σ' r) 0 0 A :=
  g_metI (by decide) rfl hi mKs_nd hA (Nat.le_of_ble_eq_true rfl) (fun p e s m below meth c Q C0 Kr ls hl G => wX6_plan_0 C0 a1 a2 σ  (r, σ') h Kr _ _ ls hl G)
-- X6_even
abbrev RmX6_even : Room := { frames := 5, cells := 0, slots := 0, locals := 128 }
theorem hdX6_even : yX6_even.cls = RX6 ∧ yX6_even.cls ≠ "java/lang/invoke/MethodHandle" ∧ yX6_even.cls ≠ "java/lang/invoke/VarHandle" ∧ (parseMethodDescriptor yX6_even.desc).map (fun d => d.parameters.length) = some 0 := by decide +kernel
set_option maxHeartbeats 400000 in
theorem wX6_even_100 (C0 : Cx ad dc D RX6 cX6_even 6 p s m args meth c) (a1 : Int32) (a2 : Int32) (a3 : Int32) (a4 : Int32) (σ : St)  (o : ((Int32 × St) ⊕ (St)) ⊕ (Int32 × St)) (h : fX6_even_100 a1 a2 a3 a4 σ = some o) (Kb : ∀ (b3 : Int32) (σ' : St), o = .inr (b3, σ') → ∀ (H : Heap) (locs : List Loc) (ls : Array Slot), lv_has ls 6 [(0, .ref (ad 0)), (1, .int a1), (2, .int a2), (3, .int b3)] → GW mSh mKs ad dc D A s σ' H locs → W p l e RmX6_even s m args below meth c H locs 0 0 Q (F0 m 55 ls [])) (Ke0 : ∀ (b3 : Int32) (σ' : St), o = .inl (.inl (b3, σ')) → ∀ (H : Heap) (locs : List Loc) (ls : Array Slot), lv_has ls 6 [(3, .int b3)] → GW mSh mKs ad dc D A s σ' H locs → W p l e RmX6_even s m args below meth c H locs 0 0 Q (F0 m 145 ls [])) (Ke1 : ∀  (σ' : St), o = .inl (.inr (σ')) → ∀ (H : Heap) (locs : List Loc) (ls : Array Slot), lv_has ls 6 [] → GW mSh mKs ad dc D A s σ' H locs → W p l e RmX6_even s m args below meth c H locs 0 0 Q (F0 m 153 ls [])) (H : Heap) (locs : List Loc) (ls : Array Slot) (hl : lv_has ls 6 [(0, .ref (ad 0)), (1, .int a1), (2, .int a2), (3, .int a3), (4, .int a4)]) (G : GW mSh mKs ad dc D A s σ H locs) : W p l e RmX6_even s m args below meth c H locs 0 0 Q (F0 m 100 ls []) := by
  have hx := C0.1
  have hb := C0.2.1
  unfold fX6_even_100 at h
  refine lv_iload_n hx hb dX6_even_100 rfl (lv_at hl 3 rfl) ?_
  refine lv_aload_n hx hb dX6_even_101 rfl (lv_at hl 0 rfl) ?_
  refine m_getC C0 G 3 (by decide) rfl q1517 dX6_even_102 ?_
  refine lv_iconst (v := 0) hx hb dX6_even_105 (by decide +kernel) ?_
  obtain ⟨b_1, h⟩ := ckB_e h
  refine g_iald C0 G (n := 8060) (by decide) rfl b_1 dX6_even_106 ?_
  refine lv_imul hx hb dX6_even_107 ?_
  refine lv_iload_n hx hb dX6_even_108 rfl (lv_at hl 2 rfl) ?_
  refine lv_isub hx hb dX6_even_109 ?_
  refine lv_topi (fun x2 e_x2 => ?_)
  have h := letB_e h e_x2
  refine lv_istore (lv' := [(5, .int x2), (0, .ref (ad 0)), (1, .int a1), (2, .int a2), (3, .int a3), (4, .int a4)]) hx hb dX6_even_110 hl (by decide) rfl (fun ls hl => ?_)
  refine lv_iload hx hb dX6_even_112 (lv_at hl 0 rfl) ?_
  refine lv_i2l hx hb dX6_even_114 rfl ?_
  refine lv_lconst (v := 0) hx hb dX6_even_115 (by decide) ?_
  refine lv_ldc2 hx hb C0.2.2.2.1 (C0.2.2.2.2.1 _ q2026) dX6_even_116 ?_
  obtain ⟨r3, h_r3, h⟩ := bn1_e h
  refine g_callSi (rest := []) C0 G hl (kX6_in (l := l) C0.2.2.2.2.2.2.1 G.2.2.2 h_r3) (va_cwS 3 C0.2.2.2.2.1 (lw_S q1721 q1722 q114 q1723) rfl rfl rfl hdX6_in ⟨Nat.le_of_ble_eq_true rfl, Nat.le_of_ble_eq_true rfl⟩) rfl (Nat.le_of_ble_eq_true rfl) dX6_even_119 ⟨Nat.zero_le _, Nat.zero_le _⟩ (fun H locs G => ?_)
  refine lv_if_eq (tgt := 147) hx hb dX6_even_122 (by decide) (fun c4 => ?_) (fun c4 => ?_)
  · have h := ite_t h c4
    obtain ⟨x5, e_x5⟩ : ∃ z : Int32, z = a3 + 1 := ⟨_, rfl⟩
    have h := letB_e h e_x5
    refine lv_iinc (v := x5) (lv' := [(3, .int x5), (5, .int x2), (0, .ref (ad 0)), (1, .int a1), (2, .int a2), (4, .int a4)]) hx hb dX6_even_147 hl (k := 4) rfl ((congrArg (fun z => a3 + z) (show Int32.ofInt 1 = 1 by decide)).trans e_x5.symm) (by decide) rfl (fun ls hl => ?_)
    refine lv_goto (tgt := 55) hx hb dX6_even_150 (by decide) ?_
    cases h
    exact Kb x5 (σ) rfl _ _ _ (lv_sub hl [2, 3, 4, 0] rfl) G
  · have h := ite_f h c4
    refine lv_aload_n hx hb dX6_even_125 rfl (lv_at hl 1 rfl) ?_
    refine lv_iload hx hb dX6_even_126 (lv_at hl 5 rfl) ?_
    refine lv_aload_n hx hb dX6_even_128 rfl (lv_at hl 1 rfl) ?_
    refine m_getC C0 G 3 (by decide) rfl q1517 dX6_even_129 ?_
    refine lv_bipush (v := 10) hx hb dX6_even_132 (by decide +kernel) ?_
    obtain ⟨b_6, h⟩ := ckB_e h
    refine g_iald C0 G (n := 8060) (by decide) rfl b_6 dX6_even_134 ?_
    refine lv_iload_n hx hb dX6_even_135 rfl (lv_at hl 2 rfl) ?_
    refine lv_bipush (v := 6) hx hb dX6_even_136 (by decide +kernel) ?_
    obtain ⟨r7, σ8, h_r7, h⟩ := bn2_e h
    refine g_callVi (rest := []) C0 G hl (ci := 6) rfl (by decide) rfl (kX6_findLevels (l := l) C0.2.2.2.2.2.2.1 G.2.2.2 h_r7) (cwV 4 C0.2.2.2.2.1 (lw_V q2035 q2037 qs92 q114 q2038) rfl rfl rfl hdX6_findLevels ⟨Nat.le_of_ble_eq_true rfl, Nat.le_of_ble_eq_true rfl⟩) rfl (Nat.le_of_ble_eq_true rfl) dX6_even_138 ⟨Nat.zero_le _, Nat.zero_le _⟩ (fun H locs G => ?_)
    refine lv_iconst (v := (-1)) hx hb dX6_even_141 (by decide +kernel) ?_
    refine lv_icmp_eq (tgt := 147) hx hb dX6_even_142 (by decide) (fun c9 => ?_) (fun c9 => ?_)
    · have h := ite_t h c9
      obtain ⟨x10, e_x10⟩ : ∃ z : Int32, z = a3 + 1 := ⟨_, rfl⟩
      have h := letB_e h e_x10
      refine lv_iinc (v := x10) (lv' := [(3, .int x10), (5, .int x2), (0, .ref (ad 0)), (1, .int a1), (2, .int a2), (4, .int a4)]) hx hb dX6_even_147 hl (k := 4) rfl ((congrArg (fun z => a3 + z) (show Int32.ofInt 1 = 1 by decide)).trans e_x10.symm) (by decide) rfl (fun ls hl => ?_)
      refine lv_goto (tgt := 55) hx hb dX6_even_150 (by decide) ?_
      cases h
      exact Kb x10 (σ8) rfl _ _ _ (lv_sub hl [2, 3, 4, 0] rfl) G
    · have h := ite_f h c9
      cases h
      exact Ke0 a3 (σ8) rfl _ _ _ (lv_sub hl [4] rfl) G
set_option maxHeartbeats 400000 in
theorem wbX6_even_67 (C0 : Cx ad dc D RX6 cX6_even 6 p s m args meth c) (a1 : Int32) (a2 : Int32) (a3 : Int32) (a4 : Int32) (a5 : Int32) (σ : St)  (o : (Int32) ⊕ (Int32 × Int32)) (h : bX6_even_67 a1 a2 a3 a4 a5 σ = some o) (Kb : ∀ (b4 : Int32) (b5 : Int32), o = .inr (b4, b5) → ∀ (H : Heap) (locs : List Loc) (ls : Array Slot), lv_has ls 6 [(0, .ref (ad 0)), (1, .int a1), (2, .int a2), (3, .int a3), (4, .int b4), (5, .int b5)] → GW mSh mKs ad dc D A s σ H locs → W p l e RmX6_even s m args below meth c H locs 0 0 Q (F0 m 67 ls [])) (Ke0 : ∀ (b4 : Int32), o = .inl b4 → ∀ (H : Heap) (locs : List Loc) (ls : Array Slot), lv_has ls 6 [(0, .ref (ad 0)), (1, .int a1), (2, .int a2), (3, .int a3), (4, .int b4)] → GW mSh mKs ad dc D A s σ H locs → W p l e RmX6_even s m args below meth c H locs 0 0 Q (F0 m 100 ls [])) (H : Heap) (locs : List Loc) (ls : Array Slot) (hl : lv_has ls 6 [(0, .ref (ad 0)), (1, .int a1), (2, .int a2), (3, .int a3), (4, .int a4), (5, .int a5)]) (G : GW mSh mKs ad dc D A s σ H locs) : W p l e RmX6_even s m args below meth c H locs 0 0 Q (F0 m 67 ls []) := by
  have hx := C0.1
  have hb := C0.2.1
  unfold bX6_even_67 at h
  refine lv_iload hx hb dX6_even_67 (lv_at hl 5 rfl) ?_
  refine lv_aload_n hx hb dX6_even_69 rfl (lv_at hl 0 rfl) ?_
  refine m_getC C0 G 3 (by decide) rfl q1517 dX6_even_70 ?_
  refine lv_iconst (v := 0) hx hb dX6_even_73 (by decide +kernel) ?_
  obtain ⟨b_1, h⟩ := ckB_e h
  refine g_iald C0 G (n := 8060) (by decide) rfl b_1 dX6_even_74 ?_
  refine lv_icmp_ge (tgt := 100) hx hb dX6_even_75 (by decide) (fun c2 => ?_) (fun c2 => ?_)
  · have h := ite_t h c2
    cases h
    exact Ke0 a4 rfl _ _ _ (lv_sub hl [0, 1, 2, 3, 4] rfl) G
  · have h := ite_f h c2
    refine lv_iload hx hb dX6_even_78 (lv_at hl 4 rfl) ?_
    refine lv_aload_n hx hb dX6_even_80 rfl (lv_at hl 0 rfl) ?_
    refine m_getC C0 G 50 (by decide) rfl q1564 dX6_even_81 ?_
    refine lv_iload hx hb dX6_even_84 (lv_at hl 5 rfl) ?_
    obtain ⟨b_3, h⟩ := ckB_e h
    refine g_iald C0 G (n := 5) (by decide) rfl b_3 dX6_even_86 ?_
    refine lv_iload_n hx hb dX6_even_87 rfl (lv_at hl 3 rfl) ?_
    refine lv_iconst (v := 1) hx hb dX6_even_88 (by decide +kernel) ?_
    refine lv_isub hx hb dX6_even_89 ?_
    refine lv_imul hx hb dX6_even_90 ?_
    refine lv_iadd hx hb dX6_even_91 ?_
    refine lv_topi (fun x4 e_x4 => ?_)
    have h := letB_e h e_x4
    refine lv_istore (lv' := [(4, .int x4), (0, .ref (ad 0)), (1, .int a1), (2, .int a2), (3, .int a3), (5, .int a5)]) hx hb dX6_even_92 hl (by decide) rfl (fun ls hl => ?_)
    obtain ⟨x5, e_x5⟩ : ∃ z : Int32, z = a5 + 1 := ⟨_, rfl⟩
    have h := letB_e h e_x5
    refine lv_iinc (v := x5) (lv' := [(5, .int x5), (4, .int x4), (0, .ref (ad 0)), (1, .int a1), (2, .int a2), (3, .int a3)]) hx hb dX6_even_94 hl (k := 5) rfl ((congrArg (fun z => a5 + z) (show Int32.ofInt 1 = 1 by decide)).trans e_x5.symm) (by decide) rfl (fun ls hl => ?_)
    refine lv_goto (tgt := 67) hx hb dX6_even_97 (by decide) ?_
    cases h
    exact Kb x4 x5 rfl _ _ _ (lv_sub hl [2, 3, 4, 5, 1, 0] rfl) G
set_option maxHeartbeats 400000 in
theorem lX6_even_67 (C0 : Cx ad dc D RX6 cX6_even 6 p s m args meth c) (a1 : Int32) (a2 : Int32) (a3 : Int32) (σ : St)  : ∀ (n : Nat) (a4 : Int32) (a5 : Int32) (ex : Int32) (h : iter (fun v : Int32 × Int32 => bX6_even_67 a1 a2 a3 v.1 v.2 σ) n (a4, a5) = some ex) (Ke0 : ∀ (b4 : Int32), ex = b4 → ∀ (H : Heap) (locs : List Loc) (ls : Array Slot), lv_has ls 6 [(0, .ref (ad 0)), (1, .int a1), (2, .int a2), (3, .int a3), (4, .int b4)] → GW mSh mKs ad dc D A s σ H locs → W p l e RmX6_even s m args below meth c H locs 0 0 Q (F0 m 100 ls [])) (H : Heap) (locs : List Loc) (ls : Array Slot) (hl : lv_has ls 6 [(0, .ref (ad 0)), (1, .int a1), (2, .int a2), (3, .int a3), (4, .int a4), (5, .int a5)]) (G : GW mSh mKs ad dc D A s σ H locs), W p l e RmX6_even s m args below meth c H locs 0 0 Q (F0 m 67 ls []) := by
  intro n
  induction n with
  | zero =>
    intro a4 a5 ex h
    cases h
  | succ n ih =>
    intro a4 a5 ex h Ke0 H locs ls hl G
    obtain ⟨r, hb1, hr⟩ := iter_e h
    refine wbX6_even_67 C0 a1 a2 a3 a4 a5 σ  r hb1 ?_ ?_ H locs ls hl G
    · intro b4 b5 hv H locs ls hl G
      subst hv
      rcases hr with hr | ⟨a', hr, h2⟩
      · cases hr
      · rw [← Sum.inr.inj hr] at h2
        exact ih b4 b5 ex h2 Ke0 H locs ls hl G
    · intro b4 hv H locs ls hl G
      subst hv
      rcases hr with hr | ⟨a', hr, h2⟩
      · exact Ke0 b4 (Sum.inl.inj hr).symm H locs ls hl G
      · cases hr
set_option maxHeartbeats 400000 in
theorem wX6_even_67 (C0 : Cx ad dc D RX6 cX6_even 6 p s m args meth c) (a1 : Int32) (a2 : Int32) (a3 : Int32) (a4 : Int32) (a5 : Int32) (σ : St)  (o : ((Int32 × St) ⊕ (St)) ⊕ (Int32 × St)) (h : fX6_even_67 a1 a2 a3 a4 a5 σ = some o) (Kb : ∀ (b3 : Int32) (σ' : St), o = .inr (b3, σ') → ∀ (H : Heap) (locs : List Loc) (ls : Array Slot), lv_has ls 6 [(0, .ref (ad 0)), (1, .int a1), (2, .int a2), (3, .int b3)] → GW mSh mKs ad dc D A s σ' H locs → W p l e RmX6_even s m args below meth c H locs 0 0 Q (F0 m 55 ls [])) (Ke0 : ∀ (b3 : Int32) (σ' : St), o = .inl (.inl (b3, σ')) → ∀ (H : Heap) (locs : List Loc) (ls : Array Slot), lv_has ls 6 [(3, .int b3)] → GW mSh mKs ad dc D A s σ' H locs → W p l e RmX6_even s m args below meth c H locs 0 0 Q (F0 m 145 ls [])) (Ke1 : ∀  (σ' : St), o = .inl (.inr (σ')) → ∀ (H : Heap) (locs : List Loc) (ls : Array Slot), lv_has ls 6 [] → GW mSh mKs ad dc D A s σ' H locs → W p l e RmX6_even s m args below meth c H locs 0 0 Q (F0 m 153 ls [])) (H : Heap) (locs : List Loc) (ls : Array Slot) (hl : lv_has ls 6 [(0, .ref (ad 0)), (1, .int a1), (2, .int a2), (3, .int a3), (4, .int a4), (5, .int a5)]) (G : GW mSh mKs ad dc D A s σ H locs) : W p l e RmX6_even s m args below meth c H locs 0 0 Q (F0 m 67 ls []) := by
  have hx := C0.1
  have hb := C0.2.1
  unfold fX6_even_67 at h
  obtain ⟨ex, h1, h⟩ := bn1_e h
  refine lX6_even_67 C0 a1 a2 a3 σ  FU a4 a5 ex h1 ?_ H locs ls hl G
  · intro b4 hv H locs ls hl G
    rw [hv] at h
    have h : (fX6_even_100 a1 a2 a3 b4 (σ)) = some o := h
    exact wX6_even_100 C0 a1 a2 a3 b4 (σ)  _ h Kb Ke0 Ke1 _ _ _ hl G
set_option maxHeartbeats 400000 in
theorem wbX6_even_55 (C0 : Cx ad dc D RX6 cX6_even 6 p s m args meth c) (a1 : Int32) (a2 : Int32) (a3 : Int32) (σ : St)  (o : ((Int32 × St) ⊕ (St)) ⊕ (Int32 × St)) (h : bX6_even_55 a1 a2 a3 σ = some o) (Kb : ∀ (b3 : Int32) (σ' : St), o = .inr (b3, σ') → ∀ (H : Heap) (locs : List Loc) (ls : Array Slot), lv_has ls 6 [(0, .ref (ad 0)), (1, .int a1), (2, .int a2), (3, .int b3)] → GW mSh mKs ad dc D A s σ' H locs → W p l e RmX6_even s m args below meth c H locs 0 0 Q (F0 m 55 ls [])) (Ke0 : ∀ (b3 : Int32) (σ' : St), o = .inl (.inl (b3, σ')) → ∀ (H : Heap) (locs : List Loc) (ls : Array Slot), lv_has ls 6 [(3, .int b3)] → GW mSh mKs ad dc D A s σ' H locs → W p l e RmX6_even s m args below meth c H locs 0 0 Q (F0 m 145 ls [])) (Ke1 : ∀  (σ' : St), o = .inl (.inr (σ')) → ∀ (H : Heap) (locs : List Loc) (ls : Array Slot), lv_has ls 6 [] → GW mSh mKs ad dc D A s σ' H locs → W p l e RmX6_even s m args below meth c H locs 0 0 Q (F0 m 153 ls [])) (H : Heap) (locs : List Loc) (ls : Array Slot) (hl : lv_has ls 6 [(0, .ref (ad 0)), (1, .int a1), (2, .int a2), (3, .int a3)]) (G : GW mSh mKs ad dc D A s σ H locs) : W p l e RmX6_even s m args below meth c H locs 0 0 Q (F0 m 55 ls []) := by
  have hx := C0.1
  have hb := C0.2.1
  unfold bX6_even_55 at h
  refine lv_iload_n hx hb dX6_even_55 rfl (lv_at hl 3 rfl) ?_
  refine lv_bipush (v := 9) hx hb dX6_even_56 (by decide +kernel) ?_
  refine lv_icmp_gt (tgt := 153) hx hb dX6_even_58 (by decide) (fun c1 => ?_) (fun c1 => ?_)
  · have h := ite_t h c1
    cases h
    exact Ke1 (σ) rfl _ _ _ (lv_sub hl [] rfl) G
  · have h := ite_f h c1
    refine lv_iconst (v := 0) hx hb dX6_even_61 (by decide +kernel) ?_
    refine lv_istore (lv' := [(4, .int 0), (0, .ref (ad 0)), (1, .int a1), (2, .int a2), (3, .int a3)]) hx hb dX6_even_62 hl (by decide) rfl (fun ls hl => ?_)
    refine lv_iconst (v := 0) hx hb dX6_even_64 (by decide +kernel) ?_
    refine lv_istore (lv' := [(5, .int 0), (4, .int 0), (0, .ref (ad 0)), (1, .int a1), (2, .int a2), (3, .int a3)]) hx hb dX6_even_65 hl (by decide) rfl (fun ls hl => ?_)
    exact wX6_even_67 C0 a1 a2 a3 0 0 (σ)  _ h Kb Ke0 Ke1 _ _ _ (lv_sub hl [2, 3, 4, 5, 1, 0] rfl) G
set_option maxHeartbeats 400000 in
theorem lX6_even_55 (C0 : Cx ad dc D RX6 cX6_even 6 p s m args meth c) (a1 : Int32) (a2 : Int32)   : ∀ (n : Nat) (a3 : Int32) (σ : St) (ex : (Int32 × St) ⊕ (St)) (h : iter (fun v : Int32 × St => bX6_even_55 a1 a2 v.1 v.2) n (a3, σ) = some ex) (Ke0 : ∀ (b3 : Int32) (σ' : St), ex = (.inl (b3, σ')) → ∀ (H : Heap) (locs : List Loc) (ls : Array Slot), lv_has ls 6 [(3, .int b3)] → GW mSh mKs ad dc D A s σ' H locs → W p l e RmX6_even s m args below meth c H locs 0 0 Q (F0 m 145 ls [])) (Ke1 : ∀  (σ' : St), ex = (.inr (σ')) → ∀ (H : Heap) (locs : List Loc) (ls : Array Slot), lv_has ls 6 [] → GW mSh mKs ad dc D A s σ' H locs → W p l e RmX6_even s m args below meth c H locs 0 0 Q (F0 m 153 ls [])) (H : Heap) (locs : List Loc) (ls : Array Slot) (hl : lv_has ls 6 [(0, .ref (ad 0)), (1, .int a1), (2, .int a2), (3, .int a3)]) (G : GW mSh mKs ad dc D A s σ H locs), W p l e RmX6_even s m args below meth c H locs 0 0 Q (F0 m 55 ls []) := by
  intro n
  induction n with
  | zero =>
    intro a3 σ ex h
    cases h
  | succ n ih =>
    intro a3 σ ex h Ke0 Ke1 H locs ls hl G
    obtain ⟨r, hb1, hr⟩ := iter_e h
    refine wbX6_even_55 C0 a1 a2 a3 σ  r hb1 ?_ ?_ ?_ H locs ls hl G
    · intro b3 σ' hv H locs ls hl G
      subst hv
      rcases hr with hr | ⟨a', hr, h2⟩
      · cases hr
      · rw [← Sum.inr.inj hr] at h2
        exact ih b3 σ' ex h2 Ke0 Ke1 H locs ls hl G
    · intro b3 σ' hv H locs ls hl G
      subst hv
      rcases hr with hr | ⟨a', hr, h2⟩
      · exact Ke0 b3 σ' (Sum.inl.inj hr).symm H locs ls hl G
      · cases hr
    · intro σ' hv H locs ls hl G
      subst hv
      rcases hr with hr | ⟨a', hr, h2⟩
      · exact Ke1 σ' (Sum.inl.inj hr).symm H locs ls hl G
      · cases hr
set_option maxHeartbeats 400000 in
theorem wX6_even_55 (C0 : Cx ad dc D RX6 cX6_even 6 p s m args meth c) (a1 : Int32) (a2 : Int32) (a3 : Int32) (σ : St)  (o : Int32 × St) (h : fX6_even_55 a1 a2 a3 σ = some o) (Kr : KrI p l e RmX6_even s m args below meth c cX6_even Q (GW mSh mKs ad dc D A s (o.2)) o.1) (H : Heap) (locs : List Loc) (ls : Array Slot) (hl : lv_has ls 6 [(0, .ref (ad 0)), (1, .int a1), (2, .int a2), (3, .int a3)]) (G : GW mSh mKs ad dc D A s σ H locs) : W p l e RmX6_even s m args below meth c H locs 0 0 Q (F0 m 55 ls []) := by
  have hx := C0.1
  have hb := C0.2.1
  unfold fX6_even_55 at h
  obtain ⟨ex, h1, h⟩ := bn1_e h
  refine lX6_even_55 C0 a1 a2   FU a3 σ ex h1 ?_ ?_ H locs ls hl G
  · intro b3 σ' hv H locs ls hl G
    rw [hv] at h
    have h : (some (b3, σ')) = some o := h
    refine lv_iload_n hx hb dX6_even_145 rfl (lv_at hl 0 rfl) ?_
    cases h
    exact Kr _ _ _ _ dX6_even_146 G
  · intro σ' hv H locs ls hl G
    rw [hv] at h
    have h : (some ((-1), σ')) = some o := h
    refine lv_iconst (v := (-1)) hx hb dX6_even_153 (by decide +kernel) ?_
    cases h
    exact Kr _ _ _ _ dX6_even_154 G
set_option maxHeartbeats 400000 in
theorem wbX6_even_25 (C0 : Cx ad dc D RX6 cX6_even 6 p s m args meth c) (a1 : Int32) (a2 : Int32) (a3 : Int32) (σ : St)  (o : (Int32) ⊕ (Int32 × Int32)) (h : bX6_even_25 a1 a2 a3 σ = some o) (Kb : ∀ (b2 : Int32) (b3 : Int32), o = .inr (b2, b3) → ∀ (H : Heap) (locs : List Loc) (ls : Array Slot), lv_has ls 6 [(0, .ref (ad 0)), (1, .int a1), (2, .int b2), (3, .int b3)] → GW mSh mKs ad dc D A s σ H locs → W p l e RmX6_even s m args below meth c H locs 0 0 Q (F0 m 25 ls [])) (Ke0 : ∀ (b2 : Int32), o = .inl b2 → ∀ (H : Heap) (locs : List Loc) (ls : Array Slot), lv_has ls 6 [(0, .ref (ad 0)), (1, .int a1), (2, .int b2)] → GW mSh mKs ad dc D A s σ H locs → W p l e RmX6_even s m args below meth c H locs 0 0 Q (F0 m 53 ls [])) (H : Heap) (locs : List Loc) (ls : Array Slot) (hl : lv_has ls 6 [(0, .ref (ad 0)), (1, .int a1), (2, .int a2), (3, .int a3)]) (G : GW mSh mKs ad dc D A s σ H locs) : W p l e RmX6_even s m args below meth c H locs 0 0 Q (F0 m 25 ls []) := by
  have hx := C0.1
  have hb := C0.2.1
  unfold bX6_even_25 at h
  refine lv_iload_n hx hb dX6_even_25 rfl (lv_at hl 3 rfl) ?_
  refine lv_aload_n hx hb dX6_even_26 rfl (lv_at hl 0 rfl) ?_
  refine m_getC C0 G 3 (by decide) rfl q1517 dX6_even_27 ?_
  refine lv_iconst (v := 0) hx hb dX6_even_30 (by decide +kernel) ?_
  obtain ⟨b_1, h⟩ := ckB_e h
  refine g_iald C0 G (n := 8060) (by decide) rfl b_1 dX6_even_31 ?_
  refine lv_icmp_ge (tgt := 53) hx hb dX6_even_32 (by decide) (fun c2 => ?_) (fun c2 => ?_)
  · have h := ite_t h c2
    cases h
    exact Ke0 a2 rfl _ _ _ (lv_sub hl [0, 1, 2] rfl) G
  · have h := ite_f h c2
    refine lv_iload_n hx hb dX6_even_35 rfl (lv_at hl 2 rfl) ?_
    refine lv_aload_n hx hb dX6_even_36 rfl (lv_at hl 0 rfl) ?_
    refine m_getC C0 G 3 (by decide) rfl q1517 dX6_even_37 ?_
    refine lv_bipush (v := 30) hx hb dX6_even_40 (by decide +kernel) ?_
    refine lv_iload_n hx hb dX6_even_42 rfl (lv_at hl 3 rfl) ?_
    refine lv_iadd hx hb dX6_even_43 ?_
    obtain ⟨b_3, h⟩ := ckB_e h
    refine g_iald C0 G (n := 8060) (by decide) rfl b_3 dX6_even_44 ?_
    refine lv_iadd hx hb dX6_even_45 ?_
    refine lv_topi (fun x4 e_x4 => ?_)
    have h := letB_e h e_x4
    refine lv_istore_n (lv' := [(2, .int x4), (0, .ref (ad 0)), (1, .int a1), (3, .int a3)]) hx hb dX6_even_46 rfl hl (by decide) rfl (fun ls hl => ?_)
    obtain ⟨x5, e_x5⟩ : ∃ z : Int32, z = a3 + 1 := ⟨_, rfl⟩
    have h := letB_e h e_x5
    refine lv_iinc (v := x5) (lv' := [(3, .int x5), (2, .int x4), (0, .ref (ad 0)), (1, .int a1)]) hx hb dX6_even_47 hl (k := 3) rfl ((congrArg (fun z => a3 + z) (show Int32.ofInt 1 = 1 by decide)).trans e_x5.symm) (by decide) rfl (fun ls hl => ?_)
    refine lv_goto (tgt := 25) hx hb dX6_even_50 (by decide) ?_
    cases h
    exact Kb x4 x5 rfl _ _ _ (lv_sub hl [2, 3, 1, 0] rfl) G
set_option maxHeartbeats 400000 in
theorem lX6_even_25 (C0 : Cx ad dc D RX6 cX6_even 6 p s m args meth c) (a1 : Int32) (σ : St)  : ∀ (n : Nat) (a2 : Int32) (a3 : Int32) (ex : Int32) (h : iter (fun v : Int32 × Int32 => bX6_even_25 a1 v.1 v.2 σ) n (a2, a3) = some ex) (Ke0 : ∀ (b2 : Int32), ex = b2 → ∀ (H : Heap) (locs : List Loc) (ls : Array Slot), lv_has ls 6 [(0, .ref (ad 0)), (1, .int a1), (2, .int b2)] → GW mSh mKs ad dc D A s σ H locs → W p l e RmX6_even s m args below meth c H locs 0 0 Q (F0 m 53 ls [])) (H : Heap) (locs : List Loc) (ls : Array Slot) (hl : lv_has ls 6 [(0, .ref (ad 0)), (1, .int a1), (2, .int a2), (3, .int a3)]) (G : GW mSh mKs ad dc D A s σ H locs), W p l e RmX6_even s m args below meth c H locs 0 0 Q (F0 m 25 ls []) := by
  intro n
  induction n with
  | zero =>
    intro a2 a3 ex h
    cases h
  | succ n ih =>
    intro a2 a3 ex h Ke0 H locs ls hl G
    obtain ⟨r, hb1, hr⟩ := iter_e h
    refine wbX6_even_25 C0 a1 a2 a3 σ  r hb1 ?_ ?_ H locs ls hl G
    · intro b2 b3 hv H locs ls hl G
      subst hv
      rcases hr with hr | ⟨a', hr, h2⟩
      · cases hr
      · rw [← Sum.inr.inj hr] at h2
        exact ih b2 b3 ex h2 Ke0 H locs ls hl G
    · intro b2 hv H locs ls hl G
      subst hv
      rcases hr with hr | ⟨a', hr, h2⟩
      · exact Ke0 b2 (Sum.inl.inj hr).symm H locs ls hl G
      · cases hr
set_option maxHeartbeats 400000 in
theorem wX6_even_25 (C0 : Cx ad dc D RX6 cX6_even 6 p s m args meth c) (a1 : Int32) (a2 : Int32) (a3 : Int32) (σ : St)  (o : Int32 × St) (h : fX6_even_25 a1 a2 a3 σ = some o) (Kr : KrI p l e RmX6_even s m args below meth c cX6_even Q (GW mSh mKs ad dc D A s (o.2)) o.1) (H : Heap) (locs : List Loc) (ls : Array Slot) (hl : lv_has ls 6 [(0, .ref (ad 0)), (1, .int a1), (2, .int a2), (3, .int a3)]) (G : GW mSh mKs ad dc D A s σ H locs) : W p l e RmX6_even s m args below meth c H locs 0 0 Q (F0 m 25 ls []) := by
  have hx := C0.1
  have hb := C0.2.1
  unfold fX6_even_25 at h
  obtain ⟨ex, h1, h⟩ := bn1_e h
  refine lX6_even_25 C0 a1 σ  FU a2 a3 ex h1 ?_ H locs ls hl G
  · intro b2 hv H locs ls hl G
    rw [hv] at h
    have h : (fX6_even_55 a1 b2 1 (σ)) = some o := h
    refine lv_iconst (v := 1) hx hb dX6_even_53 (by decide +kernel) ?_
    refine lv_istore_n (lv' := [(3, .int 1), (0, .ref (ad 0)), (1, .int a1), (2, .int b2)]) hx hb dX6_even_54 rfl hl (by decide) rfl (fun ls hl => ?_)
    exact wX6_even_55 C0 a1 b2 1 (σ)  _ h Kr _ _ _ (lv_sub hl [1, 2, 3, 0] rfl) G
set_option maxHeartbeats 400000 in
theorem wX6_even_0 (C0 : Cx ad dc D RX6 cX6_even 6 p s m args meth c) (σ : St)  (o : Int32 × St) (h : fX6_even σ = some o) (Kr : KrI p l e RmX6_even s m args below meth c cX6_even Q (GW mSh mKs ad dc D A s (o.2)) o.1) (H : Heap) (locs : List Loc) (ls : Array Slot) (hl : lv_has ls 6 [(0, .ref (ad 0))]) (G : GW mSh mKs ad dc D A s σ H locs) : W p l e RmX6_even s m args below meth c H locs 0 0 Q (F0 m 0 ls []) := by
  have hx := C0.1
  have hb := C0.2.1
  unfold fX6_even at h
  refine lv_aload_n hx hb dX6_even_0 rfl (lv_at hl 0 rfl) ?_
  refine lv_iconst (v := 0) hx hb dX6_even_1 (by decide +kernel) ?_
  refine m_putI C0 G 0 (by decide) rfl q1514 rfl dX6_even_2 ⟨rfl, rfl⟩ (fun σ1 H locs e_σ1 G => ?_)
  have h := letB_e h e_σ1
  refine lv_aload_n hx hb dX6_even_5 rfl (lv_at hl 0 rfl) ?_
  obtain ⟨σ3, h_r2, h⟩ := bn1_e h
  refine g_callVv (rest := []) C0 G hl (ci := 6) rfl (by decide) rfl (kX6_findWeights (l := l) C0.2.2.2.2.2.2.1 G.2.2.2 h_r2) (cwV 0 C0.2.2.2.2.1 (lw_V q2027 q2029 qs90 q114 q2030) rfl rfl rfl hdX6_findWeights ⟨Nat.le_of_ble_eq_true rfl, Nat.le_of_ble_eq_true rfl⟩) rfl (Nat.le_of_ble_eq_true rfl) dX6_even_6 ⟨Nat.zero_le _, Nat.zero_le _⟩ (fun H locs G => ?_)
  refine lv_aload_n hx hb dX6_even_9 rfl (lv_at hl 0 rfl) ?_
  refine lv_iconst (v := (-1)) hx hb dX6_even_10 (by decide +kernel) ?_
  refine m_putI C0 G 59 (by decide) rfl q1573 rfl dX6_even_11 ⟨rfl, rfl⟩ (fun σ4 H locs e_σ4 G => ?_)
  have h := letB_e h e_σ4
  refine lv_aload_n hx hb dX6_even_14 rfl (lv_at hl 0 rfl) ?_
  refine lv_bipush (v := 30) hx hb dX6_even_15 (by decide +kernel) ?_
  obtain ⟨r5, h_r5, h⟩ := bn1_e h
  refine g_callVi (rest := []) C0 G hl (ci := 6) rfl (by decide) rfl (kX6_rowAt (l := l) C0.2.2.2.2.2.2.1 G.2.2.2 h_r5) (cwV 1 C0.2.2.2.2.1 (lw_V q2031 q2033 qs91 q114 q2034) rfl rfl rfl hdX6_rowAt ⟨Nat.le_of_ble_eq_true rfl, Nat.le_of_ble_eq_true rfl⟩) rfl (Nat.le_of_ble_eq_true rfl) dX6_even_17 ⟨Nat.zero_le _, Nat.zero_le _⟩ (fun H locs G => ?_)
  refine lv_istore_n (lv' := [(1, .int r5), (0, .ref (ad 0))]) hx hb dX6_even_20 rfl hl (by decide) rfl (fun ls hl => ?_)
  refine lv_iconst (v := 0) hx hb dX6_even_21 (by decide +kernel) ?_
  refine lv_istore_n (lv' := [(2, .int 0), (1, .int r5), (0, .ref (ad 0))]) hx hb dX6_even_22 rfl hl (by decide) rfl (fun ls hl => ?_)
  refine lv_iconst (v := 0) hx hb dX6_even_23 (by decide +kernel) ?_
  refine lv_istore_n (lv' := [(3, .int 0), (2, .int 0), (1, .int r5), (0, .ref (ad 0))]) hx hb dX6_even_24 rfl hl (by decide) rfl (fun ls hl => ?_)
  exact wX6_even_25 C0 r5 0 0 (σ4)  _ h Kr _ _ _ (lv_sub hl [3, 2, 1, 0] rfl) G
theorem kX6_even {l : Launch} {ad : Nat → Nat} {dc : Nat → ClassId} {D : va_G} {A : Nat → Prop}  (hi : ∀ i j, ad i = ad j → i = j) (hA : ∀ k, k ∈ mKs → A (ad k)) {σ : St}  {r : Int32} {σ' : St}  (h : fX6_even σ = some (r, σ')) : Met l yX6_even (ws_ yX6_even cX6_even 6 (some .int)) RmX6_even (gPc mSh mKs ad dc D σ [.ref (ad 0)]) (gQi mSh mKs ad dc D A σ' r) 0 0 A :=
  g_metI (by decide) rfl hi mKs_nd hA (Nat.le_of_ble_eq_true rfl) (fun p e s m below meth c Q C0 Kr ls hl G => wX6_even_0 C0  σ  (r, σ') h Kr _ _ ls hl G)
-- X6_striker
abbrev RmX6_striker : Room := { frames := 7, cells := 0, slots := 0, locals := 176 }
theorem hdX6_striker : yX6_striker.cls = RX6 ∧ yX6_striker.cls ≠ "java/lang/invoke/MethodHandle" ∧ yX6_striker.cls ≠ "java/lang/invoke/VarHandle" ∧ (parseMethodDescriptor yX6_striker.desc).map (fun d => d.parameters.length) = some 0 := by decide +kernel
set_option maxHeartbeats 400000 in
theorem wX6_striker_0 (C0 : Cx ad dc D RX6 cX6_striker 2 p s m args meth c) (σ : St)  (o : Int32 × St) (h : fX6_striker σ = some o) (Kr : KrI p l e RmX6_striker s m args below meth c cX6_striker Q (GW mSh mKs ad dc D A s (o.2)) o.1) (H : Heap) (locs : List Loc) (ls : Array Slot) (hl : lv_has ls 2 [(0, .ref (ad 0))]) (G : GW mSh mKs ad dc D A s σ H locs) : W p l e RmX6_striker s m args below meth c H locs 0 0 Q (F0 m 0 ls []) := by
  have hx := C0.1
  have hb := C0.2.1
  unfold fX6_striker at h
  refine lv_aload_n hx hb dX6_striker_0 rfl (lv_at hl 0 rfl) ?_
  refine lv_iconst (v := 0) hx hb dX6_striker_1 (by decide +kernel) ?_
  refine m_putI C0 G 0 (by decide) rfl q1514 rfl dX6_striker_2 ⟨rfl, rfl⟩ (fun σ1 H locs e_σ1 G => ?_)
  have h := letB_e h e_σ1
  refine lv_aload_n hx hb dX6_striker_5 rfl (lv_at hl 0 rfl) ?_
  obtain ⟨σ3, h_r2, h⟩ := bn1_e h
  refine g_callVv (rest := []) C0 G hl (ci := 6) rfl (by decide) rfl (kX6_findPlan (l := l) C0.2.2.2.2.2.2.1 G.2.2.2 h_r2) (cwV 0 C0.2.2.2.2.1 (lw_V q2059 q2061 qs97 q114 q2062) rfl rfl rfl hdX6_findPlan ⟨Nat.le_of_ble_eq_true rfl, Nat.le_of_ble_eq_true rfl⟩) rfl (Nat.le_of_ble_eq_true rfl) dX6_striker_6 ⟨Nat.zero_le _, Nat.zero_le _⟩ (fun H locs G => ?_)
  refine lv_aload_n hx hb dX6_striker_9 rfl (lv_at hl 0 rfl) ?_
  refine m_getI C0 G 60 (by decide) rfl q1574 dX6_striker_10 ?_
  refine lv_iconst (v := (-1)) hx hb dX6_striker_13 (by decide +kernel) ?_
  refine lv_icmp_ne (tgt := 19) hx hb dX6_striker_14 (by decide) (fun c4 => ?_) (fun c4 => ?_)
  · have h := ite_f h c4
    refine lv_aload_n hx hb dX6_striker_19 rfl (lv_at hl 0 rfl) ?_
    refine lv_iconst (v := (-1)) hx hb dX6_striker_20 (by decide +kernel) ?_
    refine m_putI C0 G 59 (by decide) rfl q1573 rfl dX6_striker_21 ⟨rfl, rfl⟩ (fun σ5 H locs e_σ5 G => ?_)
    have h := letB_e h e_σ5
    refine lv_aload_n hx hb dX6_striker_24 rfl (lv_at hl 0 rfl) ?_
    refine lv_aload_n hx hb dX6_striker_25 rfl (lv_at hl 0 rfl) ?_
    refine lv_bipush (v := 20) hx hb dX6_striker_26 (by decide +kernel) ?_
    obtain ⟨r6, h_r6, h⟩ := bn1_e h
    refine g_callVi (rest := [.ref (ad 0)]) C0 G hl (ci := 6) rfl (by decide) rfl (kX6_rowAt (l := l) C0.2.2.2.2.2.2.1 G.2.2.2 h_r6) (cwV 1 C0.2.2.2.2.1 (lw_V q2031 q2033 qs91 q114 q2034) rfl rfl rfl hdX6_rowAt ⟨Nat.le_of_ble_eq_true rfl, Nat.le_of_ble_eq_true rfl⟩) rfl (Nat.le_of_ble_eq_true rfl) dX6_striker_28 ⟨Nat.zero_le _, Nat.zero_le _⟩ (fun H locs G => ?_)
    refine lv_aload_n hx hb dX6_striker_31 rfl (lv_at hl 0 rfl) ?_
    refine m_getC C0 G 3 (by decide) rfl q1517 dX6_striker_32 ?_
    refine lv_bipush (v := 10) hx hb dX6_striker_35 (by decide +kernel) ?_
    obtain ⟨b_7, h⟩ := ckB_e h
    refine g_iald C0 G (n := 8060) (by decide) rfl b_7 dX6_striker_37 ?_
    refine lv_iconst (v := 1) hx hb dX6_striker_38 (by decide +kernel) ?_
    refine lv_iadd hx hb dX6_striker_39 ?_
    refine lv_aload_n hx hb dX6_striker_40 rfl (lv_at hl 0 rfl) ?_
    refine lv_bipush (v := 30) hx hb dX6_striker_41 (by decide +kernel) ?_
    obtain ⟨r8, h_r8, h⟩ := bn1_e h
    refine g_callVi (rest := [.int ((gA σ5 2 (10 : Int32).toNatClampNeg) + 1), .int r6, .ref (ad 0)]) C0 G hl (ci := 6) rfl (by decide) rfl (kX6_rowAt (l := l) C0.2.2.2.2.2.2.1 G.2.2.2 h_r8) (cwV 1 C0.2.2.2.2.1 (lw_V q2031 q2033 qs91 q114 q2034) rfl rfl rfl hdX6_rowAt ⟨Nat.le_of_ble_eq_true rfl, Nat.le_of_ble_eq_true rfl⟩) rfl (Nat.le_of_ble_eq_true rfl) dX6_striker_43 ⟨Nat.zero_le _, Nat.zero_le _⟩ (fun H locs G => ?_)
    refine lv_bipush (v := 6) hx hb dX6_striker_46 (by decide +kernel) ?_
    obtain ⟨r9, σ10, h_r9, h⟩ := bn2_e h
    refine g_callVi (rest := []) C0 G hl (ci := 6) rfl (by decide) rfl (kX6_findLevels (l := l) C0.2.2.2.2.2.2.1 G.2.2.2 h_r9) (cwV 4 C0.2.2.2.2.1 (lw_V q2035 q2037 qs92 q114 q2038) rfl rfl rfl hdX6_findLevels ⟨Nat.le_of_ble_eq_true rfl, Nat.le_of_ble_eq_true rfl⟩) rfl (Nat.le_of_ble_eq_true rfl) dX6_striker_48 ⟨Nat.zero_le _, Nat.zero_le _⟩ (fun H locs G => ?_)
    refine lv_istore_n (lv' := [(1, .int r9), (0, .ref (ad 0))]) hx hb dX6_striker_51 rfl hl (by decide) rfl (fun ls hl => ?_)
    refine lv_iload_n hx hb dX6_striker_52 rfl (lv_at hl 0 rfl) ?_
    refine lv_iconst (v := (-1)) hx hb dX6_striker_53 (by decide +kernel) ?_
    refine lv_icmp_ne (tgt := 61) hx hb dX6_striker_54 (by decide) (fun c11 => ?_) (fun c11 => ?_)
    · have h := ite_f h c11
      refine lv_aload_n hx hb dX6_striker_61 rfl (lv_at hl 1 rfl) ?_
      refine m_getI C0 G 60 (by decide) rfl q1574 dX6_striker_62 ?_
      refine lv_iload_n hx hb dX6_striker_65 rfl (lv_at hl 0 rfl) ?_
      refine lv_isub hx hb dX6_striker_66 ?_
      cases h
      exact Kr _ _ _ _ dX6_striker_67 G
    · have h := ite_t h c11
      refine lv_iconst (v := (-1)) hx hb dX6_striker_57 (by decide +kernel) ?_
      refine lv_goto (tgt := 67) hx hb dX6_striker_58 (by decide) ?_
      cases h
      exact Kr _ _ _ _ dX6_striker_67 G
  · have h := ite_t h c4
    refine lv_iconst (v := (-1)) hx hb dX6_striker_17 (by decide +kernel) ?_
    cases h
    exact Kr _ _ _ _ dX6_striker_18 G
theorem kX6_striker {l : Launch} {ad : Nat → Nat} {dc : Nat → ClassId} {D : va_G} {A : Nat → Prop}  (hi : ∀ i j, ad i = ad j → i = j) (hA : ∀ k, k ∈ mKs → A (ad k)) {σ : St}  {r : Int32} {σ' : St}  (h : fX6_striker σ = some (r, σ')) : Met l yX6_striker (ws_ yX6_striker cX6_striker 2 (some .int)) RmX6_striker (gPc mSh mKs ad dc D σ [.ref (ad 0)]) (gQi mSh mKs ad dc D A σ' r) 0 0 A :=
  g_metI (by decide) rfl hi mKs_nd hA (Nat.le_of_ble_eq_true rfl) (fun p e s m below meth c Q C0 Kr ls hl G => wX6_striker_0 C0  σ  (r, σ') h Kr _ _ ls hl G)
-- X6_piece
abbrev RmX6_piece : Room := { frames := 1, cells := 0, slots := 0, locals := 25 }
theorem hdX6_piece : yX6_piece.cls = RX6 ∧ yX6_piece.cls ≠ "java/lang/invoke/MethodHandle" ∧ yX6_piece.cls ≠ "java/lang/invoke/VarHandle" ∧ (parseMethodDescriptor yX6_piece.desc).map (fun d => d.parameters.length) = some 2 := by decide +kernel
set_option maxHeartbeats 400000 in
theorem wX6_piece_0 (C0 : Cx ad dc D RX6 cX6_piece 3 p s m args meth c) (a1 : Int32) (a2 : Int32) (σ : St)  (o : Int32 × St) (h : fX6_piece a1 a2 σ = some o) (Kr : KrI p l e RmX6_piece s m args below meth c cX6_piece Q (GW mSh mKs ad dc D A s (o.2)) o.1) (H : Heap) (locs : List Loc) (ls : Array Slot) (hl : lv_has ls 3 [(0, .ref (ad 0)), (1, .int a1), (2, .int a2)]) (G : GW mSh mKs ad dc D A s σ H locs) : W p l e RmX6_piece s m args below meth c H locs 0 0 Q (F0 m 0 ls []) := by
  have hx := C0.1
  have hb := C0.2.1
  unfold fX6_piece at h
  refine lv_aload_n hx hb dX6_piece_0 rfl (lv_at hl 0 rfl) ?_
  refine lv_iconst (v := 0) hx hb dX6_piece_1 (by decide +kernel) ?_
  refine m_putI C0 G 0 (by decide) rfl q1514 rfl dX6_piece_2 ⟨rfl, rfl⟩ (fun σ1 H locs e_σ1 G => ?_)
  have h := letB_e h e_σ1
  refine lv_iload_n hx hb dX6_piece_5 rfl (lv_at hl 1 rfl) ?_
  refine lv_i2l hx hb dX6_piece_6 rfl ?_
  refine lv_lconst (v := 1) hx hb dX6_piece_7 (by decide) ?_
  refine lv_ldc2 hx hb C0.2.2.2.1 (C0.2.2.2.2.1 _ q2091) dX6_piece_8 ?_
  obtain ⟨r2, h_r2, h⟩ := bn1_e h
  refine g_callSi (rest := []) C0 G hl (kX6_in (l := l) C0.2.2.2.2.2.2.1 G.2.2.2 h_r2) (va_cwS 3 C0.2.2.2.2.1 (lw_S q1721 q1722 q114 q1723) rfl rfl rfl hdX6_in ⟨Nat.le_of_ble_eq_true rfl, Nat.le_of_ble_eq_true rfl⟩) rfl (Nat.le_of_ble_eq_true rfl) dX6_piece_11 ⟨Nat.zero_le _, Nat.zero_le _⟩ (fun H locs G => ?_)
  refine lv_if_ne (tgt := 23) hx hb dX6_piece_14 (by decide) (fun c3 => ?_) (fun c3 => ?_)
  · have h := ite_f h c3
    refine lv_iload_n hx hb dX6_piece_23 rfl (lv_at hl 2 rfl) ?_
    refine lv_i2l hx hb dX6_piece_24 rfl ?_
    refine lv_ldc2 hx hb C0.2.2.2.1 (C0.2.2.2.2.1 _ q1813) dX6_piece_25 ?_
    refine lv_aload_n hx hb dX6_piece_28 rfl (lv_at hl 0 rfl) ?_
    refine m_getC C0 G 3 (by decide) rfl q1517 dX6_piece_29 ?_
    refine lv_iconst (v := 2) hx hb dX6_piece_32 (by decide +kernel) ?_
    obtain ⟨b_4, h⟩ := ckB_e h
    refine g_iald C0 G (n := 8060) (by decide) rfl b_4 dX6_piece_33 ?_
    refine lv_i2l hx hb dX6_piece_34 rfl ?_
    refine lv_lconst (v := 1) hx hb dX6_piece_35 (by decide) ?_
    refine lv_lsub hx hb dX6_piece_36 ?_
    obtain ⟨r5, h_r5, h⟩ := bn1_e h
    refine g_callSi (rest := []) C0 G hl (kX6_in (l := l) C0.2.2.2.2.2.2.1 G.2.2.2 h_r5) (va_cwS 3 C0.2.2.2.2.1 (lw_S q1721 q1722 q114 q1723) rfl rfl rfl hdX6_in ⟨Nat.le_of_ble_eq_true rfl, Nat.le_of_ble_eq_true rfl⟩) rfl (Nat.le_of_ble_eq_true rfl) dX6_piece_37 ⟨Nat.zero_le _, Nat.zero_le _⟩ (fun H locs G => ?_)
    refine lv_if_ne (tgt := 50) hx hb dX6_piece_40 (by decide) (fun c6 => ?_) (fun c6 => ?_)
    · have h := ite_f h c6
      refine lv_aload_n hx hb dX6_piece_50 rfl (lv_at hl 0 rfl) ?_
      refine m_getC C0 G 3 (by decide) rfl q1517 dX6_piece_51 ?_
      refine lv_iconst (v := 2) hx hb dX6_piece_54 (by decide +kernel) ?_
      obtain ⟨b_7, h⟩ := ckB_e h
      refine g_iald C0 G (n := 8060) (by decide) rfl b_7 dX6_piece_55 ?_
      refine lv_bipush (v := 8) hx hb dX6_piece_56 (by decide +kernel) ?_
      refine lv_icmp_ne (tgt := 68) hx hb dX6_piece_58 (by decide) (fun c8 => ?_) (fun c8 => ?_)
      · have h := ite_f h c8
        refine lv_aload_n hx hb dX6_piece_68 rfl (lv_at hl 0 rfl) ?_
        refine m_getC C0 G 3 (by decide) rfl q1517 dX6_piece_69 ?_
        refine lv_bipush (v := 40) hx hb dX6_piece_72 (by decide +kernel) ?_
        refine lv_iconst (v := 2) hx hb dX6_piece_74 (by decide +kernel) ?_
        refine lv_aload_n hx hb dX6_piece_75 rfl (lv_at hl 0 rfl) ?_
        refine m_getC C0 G 3 (by decide) rfl q1517 dX6_piece_76 ?_
        refine lv_iconst (v := 2) hx hb dX6_piece_79 (by decide +kernel) ?_
        obtain ⟨b_9, h⟩ := ckB_e h
        refine g_iald C0 G (n := 8060) (by decide) rfl b_9 dX6_piece_80 ?_
        refine lv_imul hx hb dX6_piece_81 ?_
        refine lv_iadd hx hb dX6_piece_82 ?_
        refine lv_iload_n hx hb dX6_piece_83 rfl (lv_at hl 1 rfl) ?_
        obtain ⟨b_10, h⟩ := ckB_e h
        refine g_iast C0 G (n := 8060) (by decide) rfl b_10 dX6_piece_84 (fun σ11 H locs e_σ11 G => ?_)
        have h := letB_e h e_σ11
        refine lv_aload_n hx hb dX6_piece_85 rfl (lv_at hl 0 rfl) ?_
        refine m_getC C0 G 3 (by decide) rfl q1517 dX6_piece_86 ?_
        refine lv_bipush (v := 40) hx hb dX6_piece_89 (by decide +kernel) ?_
        refine lv_iconst (v := 2) hx hb dX6_piece_91 (by decide +kernel) ?_
        refine lv_aload_n hx hb dX6_piece_92 rfl (lv_at hl 0 rfl) ?_
        refine m_getC C0 G 3 (by decide) rfl q1517 dX6_piece_93 ?_
        refine lv_iconst (v := 2) hx hb dX6_piece_96 (by decide +kernel) ?_
        obtain ⟨b_12, h⟩ := ckB_e h
        refine g_iald C0 G (n := 8060) (by decide) rfl b_12 dX6_piece_97 ?_
        refine lv_imul hx hb dX6_piece_98 ?_
        refine lv_iadd hx hb dX6_piece_99 ?_
        refine lv_iconst (v := 1) hx hb dX6_piece_100 (by decide +kernel) ?_
        refine lv_iadd hx hb dX6_piece_101 ?_
        refine lv_iload_n hx hb dX6_piece_102 rfl (lv_at hl 2 rfl) ?_
        obtain ⟨b_13, h⟩ := ckB_e h
        refine g_iast C0 G (n := 8060) (by decide) rfl b_13 dX6_piece_103 (fun σ14 H locs e_σ14 G => ?_)
        have h := letB_e h e_σ14
        refine lv_aload_n hx hb dX6_piece_104 rfl (lv_at hl 0 rfl) ?_
        refine m_getC C0 G 3 (by decide) rfl q1517 dX6_piece_105 ?_
        refine lv_iconst (v := 2) hx hb dX6_piece_108 (by decide +kernel) ?_
        refine lv_dup2_11 hx hb dX6_piece_109 rfl rfl ?_
        obtain ⟨b_15, h⟩ := ckB_e h
        refine g_iald C0 G (n := 8060) (by decide) rfl b_15 dX6_piece_110 ?_
        refine lv_iconst (v := 1) hx hb dX6_piece_111 (by decide +kernel) ?_
        refine lv_iadd hx hb dX6_piece_112 ?_
        obtain ⟨b_16, h⟩ := ckB_e h
        refine g_iast C0 G (n := 8060) (by decide) rfl b_16 dX6_piece_113 (fun σ17 H locs e_σ17 G => ?_)
        have h := letB_e h e_σ17
        refine lv_aload_n hx hb dX6_piece_114 rfl (lv_at hl 0 rfl) ?_
        refine lv_aload_n hx hb dX6_piece_115 rfl (lv_at hl 0 rfl) ?_
        refine m_getC C0 G 3 (by decide) rfl q1517 dX6_piece_116 ?_
        refine lv_iconst (v := 2) hx hb dX6_piece_119 (by decide +kernel) ?_
        obtain ⟨b_18, h⟩ := ckB_e h
        refine g_iald C0 G (n := 8060) (by decide) rfl b_18 dX6_piece_120 ?_
        refine lv_iconst (v := 1) hx hb dX6_piece_121 (by decide +kernel) ?_
        refine lv_isub hx hb dX6_piece_122 ?_
        obtain ⟨r19, σ20, h_r19, h⟩ := bn2_e h
        refine g_callVi (rest := []) C0 G hl (ci := 6) rfl (by decide) rfl (kX6_tell (l := l) C0.2.2.2.2.2.2.1 G.2.2.2 h_r19) (cwV 1 C0.2.2.2.2.1 (lw_V q1724 q1726 qs49 q114 q1727) rfl rfl rfl hdX6_tell ⟨Nat.le_of_ble_eq_true rfl, Nat.le_of_ble_eq_true rfl⟩) rfl (Nat.le_of_ble_eq_true rfl) dX6_piece_123 ⟨Nat.zero_le _, Nat.zero_le _⟩ (fun H locs G => ?_)
        cases h
        exact Kr _ _ _ _ dX6_piece_126 G
      · have h := ite_t h c8
        refine lv_aload_n hx hb dX6_piece_61 rfl (lv_at hl 0 rfl) ?_
        refine lv_bipush (v := (-5)) hx hb dX6_piece_62 (by decide +kernel) ?_
        obtain ⟨r21, σ22, h_r21, h⟩ := bn2_e h
        refine g_callVi (rest := []) C0 G hl (ci := 6) rfl (by decide) rfl (kX6_tell (l := l) C0.2.2.2.2.2.2.1 G.2.2.2 h_r21) (cwV 1 C0.2.2.2.2.1 (lw_V q1724 q1726 qs49 q114 q1727) rfl rfl rfl hdX6_tell ⟨Nat.le_of_ble_eq_true rfl, Nat.le_of_ble_eq_true rfl⟩) rfl (Nat.le_of_ble_eq_true rfl) dX6_piece_64 ⟨Nat.zero_le _, Nat.zero_le _⟩ (fun H locs G => ?_)
        cases h
        exact Kr _ _ _ _ dX6_piece_67 G
    · have h := ite_t h c6
      refine lv_aload_n hx hb dX6_piece_43 rfl (lv_at hl 0 rfl) ?_
      refine lv_bipush (v := (-2)) hx hb dX6_piece_44 (by decide +kernel) ?_
      obtain ⟨r23, σ24, h_r23, h⟩ := bn2_e h
      refine g_callVi (rest := []) C0 G hl (ci := 6) rfl (by decide) rfl (kX6_tell (l := l) C0.2.2.2.2.2.2.1 G.2.2.2 h_r23) (cwV 1 C0.2.2.2.2.1 (lw_V q1724 q1726 qs49 q114 q1727) rfl rfl rfl hdX6_tell ⟨Nat.le_of_ble_eq_true rfl, Nat.le_of_ble_eq_true rfl⟩) rfl (Nat.le_of_ble_eq_true rfl) dX6_piece_46 ⟨Nat.zero_le _, Nat.zero_le _⟩ (fun H locs G => ?_)
      cases h
      exact Kr _ _ _ _ dX6_piece_49 G
  · have h := ite_t h c3
    refine lv_aload_n hx hb dX6_piece_17 rfl (lv_at hl 0 rfl) ?_
    refine lv_iconst (v := (-1)) hx hb dX6_piece_18 (by decide +kernel) ?_
    obtain ⟨r25, σ26, h_r25, h⟩ := bn2_e h
    refine g_callVi (rest := []) C0 G hl (ci := 6) rfl (by decide) rfl (kX6_tell (l := l) C0.2.2.2.2.2.2.1 G.2.2.2 h_r25) (cwV 1 C0.2.2.2.2.1 (lw_V q1724 q1726 qs49 q114 q1727) rfl rfl rfl hdX6_tell ⟨Nat.le_of_ble_eq_true rfl, Nat.le_of_ble_eq_true rfl⟩) rfl (Nat.le_of_ble_eq_true rfl) dX6_piece_19 ⟨Nat.zero_le _, Nat.zero_le _⟩ (fun H locs G => ?_)
    cases h
    exact Kr _ _ _ _ dX6_piece_22 G
theorem kX6_piece {l : Launch} {ad : Nat → Nat} {dc : Nat → ClassId} {D : va_G} {A : Nat → Prop}  (hi : ∀ i j, ad i = ad j → i = j) (hA : ∀ k, k ∈ mKs → A (ad k)) {σ : St} {a1 : Int32} {a2 : Int32} {r : Int32} {σ' : St}  (h : fX6_piece a1 a2 σ = some (r, σ')) : Met l yX6_piece (ws_ yX6_piece cX6_piece 3 (some .int)) RmX6_piece (gPc mSh mKs ad dc D σ [.ref (ad 0), .int a1, .int a2]) (gQi mSh mKs ad dc D A σ' r) 0 0 A :=
  g_metI (by decide) rfl hi mKs_nd hA (Nat.le_of_ble_eq_true rfl) (fun p e s m below meth c Q C0 Kr ls hl G => wX6_piece_0 C0 a1 a2 σ  (r, σ') h Kr _ _ ls hl G)
-- X6_doneBy
abbrev RmX6_doneBy : Room := { frames := 0, cells := 0, slots := 0, locals := 0 }
theorem hdX6_doneBy : yX6_doneBy.cls = RX6 ∧ yX6_doneBy.cls ≠ "java/lang/invoke/MethodHandle" ∧ yX6_doneBy.cls ≠ "java/lang/invoke/VarHandle" ∧ (parseMethodDescriptor yX6_doneBy.desc).map (fun d => d.parameters.length) = some 1 := by decide +kernel
set_option maxHeartbeats 400000 in
theorem wX6_doneBy_196 (C0 : Cx ad dc D RX6 cX6_doneBy 9 p s m args meth c) (a1 : Int32) (a2 : Int32) (a3 : Int32) (a4 : Int32) (a5 : Int32) (a7 : Int32) (t1 : Int32) (t2 : Int32) (σ : St)  (o : ((St) ⊕ (Int32 × St)) ⊕ (Int32 × Int32 × Int32 × St)) (h : fX6_doneBy_196 a1 a2 a3 a4 a5 a7 t1 t2 σ = some o) (Kb : ∀ (b2 : Int32) (b3 : Int32) (b4 : Int32) (σ' : St), o = .inr (b2, b3, b4, σ') → ∀ (H : Heap) (locs : List Loc) (ls : Array Slot), lv_has ls 9 [(0, .ref (ad 0)), (1, .int a1), (2, .int b2), (3, .int b3), (4, .int b4)] → GW mSh mKs ad dc D A s σ' H locs → W p l e RmX6_doneBy s m args below meth c H locs 0 0 Q (F0 m 30 ls [])) (Ke0 : ∀  (σ' : St), o = .inl (.inl (σ')) → ∀ (H : Heap) (locs : List Loc) (ls : Array Slot), lv_has ls 9 [] → GW mSh mKs ad dc D A s σ' H locs → W p l e RmX6_doneBy s m args below meth c H locs 0 0 Q (F0 m 81 ls [])) (Ke1 : ∀ (b3 : Int32) (σ' : St), o = .inl (.inr (b3, σ')) → ∀ (H : Heap) (locs : List Loc) (ls : Array Slot), lv_has ls 9 [(3, .int b3)] → GW mSh mKs ad dc D A s σ' H locs → W p l e RmX6_doneBy s m args below meth c H locs 0 0 Q (F0 m 253 ls [])) (H : Heap) (locs : List Loc) (ls : Array Slot) (hl : lv_has ls 9 [(0, .ref (ad 0)), (1, .int a1), (2, .int a2), (3, .int a3), (4, .int a4), (5, .int a5), (7, .int a7)]) (G : GW mSh mKs ad dc D A s σ H locs) : W p l e RmX6_doneBy s m args below meth c H locs 0 0 Q (F0 m 196 ls [.int t2, .int t1, .ref (ad 28)]) := by
  have hx := C0.1
  have hb := C0.2.1
  unfold fX6_doneBy_196 at h
  obtain ⟨b_1, h⟩ := ckB_e h
  refine g_iast C0 G (n := 8) (by decide) rfl b_1 dX6_doneBy_196 (fun σ2 H locs e_σ2 G => ?_)
  have h := letB_e h e_σ2
  refine lv_aload_n hx hb dX6_doneBy_197 rfl (lv_at hl 0 rfl) ?_
  refine m_getC C0 G 65 (by decide) rfl q1579 dX6_doneBy_198 ?_
  refine lv_iload hx hb dX6_doneBy_201 (lv_at hl 6 rfl) ?_
  refine lv_aload_n hx hb dX6_doneBy_203 rfl (lv_at hl 0 rfl) ?_
  refine m_getC C0 G 64 (by decide) rfl q1578 dX6_doneBy_204 ?_
  refine lv_iload hx hb dX6_doneBy_207 (lv_at hl 5 rfl) ?_
  obtain ⟨b_3, h⟩ := ckB_e h
  refine g_iald C0 G (n := 8) (by decide) rfl b_3 dX6_doneBy_209 ?_
  refine lv_aload_n hx hb dX6_doneBy_210 rfl (lv_at hl 0 rfl) ?_
  refine m_getC C0 G 3 (by decide) rfl q1517 dX6_doneBy_211 ?_
  refine lv_bipush (v := 40) hx hb dX6_doneBy_214 (by decide +kernel) ?_
  refine lv_iconst (v := 2) hx hb dX6_doneBy_216 (by decide +kernel) ?_
  refine lv_iload hx hb dX6_doneBy_217 (lv_at hl 5 rfl) ?_
  refine lv_imul hx hb dX6_doneBy_219 ?_
  refine lv_iadd hx hb dX6_doneBy_220 ?_
  obtain ⟨b_4, h⟩ := ckB_e h
  refine g_iald C0 G (n := 8060) (by decide) rfl b_4 dX6_doneBy_221 ?_
  refine lv_iadd hx hb dX6_doneBy_222 ?_
  obtain ⟨b_5, h⟩ := ckB_e h
  refine g_iast C0 G (n := 3) (by decide) rfl b_5 dX6_doneBy_223 (fun σ6 H locs e_σ6 G => ?_)
  have h := letB_e h e_σ6
  refine lv_aload_n hx hb dX6_doneBy_224 rfl (lv_at hl 0 rfl) ?_
  refine m_getC C0 G 65 (by decide) rfl q1579 dX6_doneBy_225 ?_
  refine lv_iload hx hb dX6_doneBy_228 (lv_at hl 6 rfl) ?_
  obtain ⟨b_7, h⟩ := ckB_e h
  refine g_iald C0 G (n := 3) (by decide) rfl b_7 dX6_doneBy_230 ?_
  refine lv_iload_n hx hb dX6_doneBy_231 rfl (lv_at hl 3 rfl) ?_
  refine lv_icmp_le (tgt := 245) hx hb dX6_doneBy_232 (by decide) (fun c8 => ?_) (fun c8 => ?_)
  · have h := ite_t h c8
    refine lv_iload_n hx hb dX6_doneBy_245 rfl (lv_at hl 3 rfl) ?_
    refine lv_istore_n (lv' := [(3, .int a3), (0, .ref (ad 0)), (1, .int a1), (2, .int a2), (4, .int a4), (5, .int a5), (7, .int a7)]) hx hb dX6_doneBy_246 rfl hl (by decide) rfl (fun ls hl => ?_)
    obtain ⟨x9, e_x9⟩ : ∃ z : Int32, z = a4 + 1 := ⟨_, rfl⟩
    have h := letB_e h e_x9
    refine lv_iinc (v := x9) (lv' := [(4, .int x9), (3, .int a3), (0, .ref (ad 0)), (1, .int a1), (2, .int a2), (5, .int a5), (7, .int a7)]) hx hb dX6_doneBy_247 hl (k := 4) rfl ((congrArg (fun z => a4 + z) (show Int32.ofInt 1 = 1 by decide)).trans e_x9.symm) (by decide) rfl (fun ls hl => ?_)
    refine lv_goto (tgt := 30) hx hb dX6_doneBy_250 (by decide) ?_
    cases h
    exact Kb a2 a3 x9 (σ6) rfl _ _ _ (lv_sub hl [2, 3, 4, 1, 0] rfl) G
  · have h := ite_f h c8
    refine lv_aload_n hx hb dX6_doneBy_235 rfl (lv_at hl 0 rfl) ?_
    refine m_getC C0 G 65 (by decide) rfl q1579 dX6_doneBy_236 ?_
    refine lv_iload hx hb dX6_doneBy_239 (lv_at hl 6 rfl) ?_
    obtain ⟨b_10, h⟩ := ckB_e h
    refine g_iald C0 G (n := 3) (by decide) rfl b_10 dX6_doneBy_241 ?_
    refine lv_goto (tgt := 246) hx hb dX6_doneBy_242 (by decide) ?_
    refine lv_topi (fun x11 e_x11 => ?_)
    have h := letB_e h e_x11
    refine lv_istore_n (lv' := [(3, .int x11), (0, .ref (ad 0)), (1, .int a1), (2, .int a2), (4, .int a4), (5, .int a5), (7, .int a7)]) hx hb dX6_doneBy_246 rfl hl (by decide) rfl (fun ls hl => ?_)
    obtain ⟨x12, e_x12⟩ : ∃ z : Int32, z = a4 + 1 := ⟨_, rfl⟩
    have h := letB_e h e_x12
    refine lv_iinc (v := x12) (lv' := [(4, .int x12), (3, .int x11), (0, .ref (ad 0)), (1, .int a1), (2, .int a2), (5, .int a5), (7, .int a7)]) hx hb dX6_doneBy_247 hl (k := 4) rfl ((congrArg (fun z => a4 + z) (show Int32.ofInt 1 = 1 by decide)).trans e_x12.symm) (by decide) rfl (fun ls hl => ?_)
    refine lv_goto (tgt := 30) hx hb dX6_doneBy_250 (by decide) ?_
    cases h
    exact Kb a2 x11 x12 (σ6) rfl _ _ _ (lv_sub hl [2, 3, 4, 1, 0] rfl) G
set_option maxHeartbeats 400000 in
theorem wX6_doneBy_164 (C0 : Cx ad dc D RX6 cX6_doneBy 9 p s m args meth c) (a1 : Int32) (a2 : Int32) (a3 : Int32) (a4 : Int32) (a5 : Int32) (a7 : Int32) (t0 : Int32) (σ : St)  (o : ((St) ⊕ (Int32 × St)) ⊕ (Int32 × Int32 × Int32 × St)) (h : fX6_doneBy_164 a1 a2 a3 a4 a5 a7 t0 σ = some o) (Kb : ∀ (b2 : Int32) (b3 : Int32) (b4 : Int32) (σ' : St), o = .inr (b2, b3, b4, σ') → ∀ (H : Heap) (locs : List Loc) (ls : Array Slot), lv_has ls 9 [(0, .ref (ad 0)), (1, .int a1), (2, .int b2), (3, .int b3), (4, .int b4)] → GW mSh mKs ad dc D A s σ' H locs → W p l e RmX6_doneBy s m args below meth c H locs 0 0 Q (F0 m 30 ls [])) (Ke0 : ∀  (σ' : St), o = .inl (.inl (σ')) → ∀ (H : Heap) (locs : List Loc) (ls : Array Slot), lv_has ls 9 [] → GW mSh mKs ad dc D A s σ' H locs → W p l e RmX6_doneBy s m args below meth c H locs 0 0 Q (F0 m 81 ls [])) (Ke1 : ∀ (b3 : Int32) (σ' : St), o = .inl (.inr (b3, σ')) → ∀ (H : Heap) (locs : List Loc) (ls : Array Slot), lv_has ls 9 [(3, .int b3)] → GW mSh mKs ad dc D A s σ' H locs → W p l e RmX6_doneBy s m args below meth c H locs 0 0 Q (F0 m 253 ls [])) (H : Heap) (locs : List Loc) (ls : Array Slot) (hl : lv_has ls 9 [(0, .ref (ad 0)), (1, .int a1), (2, .int a2), (3, .int a3), (4, .int a4), (5, .int a5), (7, .int a7)]) (G : GW mSh mKs ad dc D A s σ H locs) : W p l e RmX6_doneBy s m args below meth c H locs 0 0 Q (F0 m 164 ls [.int t0]) := by
  have hx := C0.1
  have hb := C0.2.1
  unfold fX6_doneBy_164 at h
  refine lv_istore (lv' := [(8, .int t0), (0, .ref (ad 0)), (1, .int a1), (2, .int a2), (3, .int a3), (4, .int a4), (5, .int a5), (7, .int a7)]) hx hb dX6_doneBy_164 hl (by decide) rfl (fun ls hl => ?_)
  refine lv_aload_n hx hb dX6_doneBy_166 rfl (lv_at hl 1 rfl) ?_
  refine m_getC C0 G 64 (by decide) rfl q1578 dX6_doneBy_167 ?_
  refine lv_iload hx hb dX6_doneBy_170 (lv_at hl 6 rfl) ?_
  refine lv_aload_n hx hb dX6_doneBy_172 rfl (lv_at hl 1 rfl) ?_
  refine m_getC C0 G 65 (by decide) rfl q1579 dX6_doneBy_173 ?_
  refine lv_iload hx hb dX6_doneBy_176 (lv_at hl 7 rfl) ?_
  obtain ⟨b_1, h⟩ := ckB_e h
  refine g_iald C0 G (n := 3) (by decide) rfl b_1 dX6_doneBy_178 ?_
  refine lv_iload hx hb dX6_doneBy_179 (lv_at hl 0 rfl) ?_
  refine lv_icmp_le (tgt := 194) hx hb dX6_doneBy_181 (by decide) (fun c2 => ?_) (fun c2 => ?_)
  · have h := ite_t h c2
    refine lv_iload hx hb dX6_doneBy_194 (lv_at hl 0 rfl) ?_
    exact wX6_doneBy_196 C0 a1 a2 a3 a4 a5 a7 a5 t0 (σ)  _ h Kb Ke0 Ke1 _ _ _ (lv_sub hl [1, 2, 3, 4, 5, 6, 7] rfl) G
  · have h := ite_f h c2
    refine lv_aload_n hx hb dX6_doneBy_184 rfl (lv_at hl 1 rfl) ?_
    refine m_getC C0 G 65 (by decide) rfl q1579 dX6_doneBy_185 ?_
    refine lv_iload hx hb dX6_doneBy_188 (lv_at hl 7 rfl) ?_
    obtain ⟨b_3, h⟩ := ckB_e h
    refine g_iald C0 G (n := 3) (by decide) rfl b_3 dX6_doneBy_190 ?_
    refine lv_goto (tgt := 196) hx hb dX6_doneBy_191 (by decide) ?_
    exact wX6_doneBy_196 C0 a1 a2 a3 a4 a5 a7 a5 (gA σ 29 a7.toNatClampNeg) (σ)  _ h Kb Ke0 Ke1 _ _ _ (lv_sub hl [1, 2, 3, 4, 5, 6, 7] rfl) G
set_option maxHeartbeats 400000 in
theorem wX6_doneBy_134 (C0 : Cx ad dc D RX6 cX6_doneBy 9 p s m args meth c) (a1 : Int32) (a2 : Int32) (a3 : Int32) (a4 : Int32) (a5 : Int32) (a6 : Int32) (a7 : Int32) (σ : St)  (o : ((St) ⊕ (Int32 × St)) ⊕ (Int32 × Int32 × Int32 × St)) (h : fX6_doneBy_134 a1 a2 a3 a4 a5 a6 a7 σ = some o) (Kb : ∀ (b2 : Int32) (b3 : Int32) (b4 : Int32) (σ' : St), o = .inr (b2, b3, b4, σ') → ∀ (H : Heap) (locs : List Loc) (ls : Array Slot), lv_has ls 9 [(0, .ref (ad 0)), (1, .int a1), (2, .int b2), (3, .int b3), (4, .int b4)] → GW mSh mKs ad dc D A s σ' H locs → W p l e RmX6_doneBy s m args below meth c H locs 0 0 Q (F0 m 30 ls [])) (Ke0 : ∀  (σ' : St), o = .inl (.inl (σ')) → ∀ (H : Heap) (locs : List Loc) (ls : Array Slot), lv_has ls 9 [] → GW mSh mKs ad dc D A s σ' H locs → W p l e RmX6_doneBy s m args below meth c H locs 0 0 Q (F0 m 81 ls [])) (Ke1 : ∀ (b3 : Int32) (σ' : St), o = .inl (.inr (b3, σ')) → ∀ (H : Heap) (locs : List Loc) (ls : Array Slot), lv_has ls 9 [(3, .int b3)] → GW mSh mKs ad dc D A s σ' H locs → W p l e RmX6_doneBy s m args below meth c H locs 0 0 Q (F0 m 253 ls [])) (H : Heap) (locs : List Loc) (ls : Array Slot) (hl : lv_has ls 9 [(0, .ref (ad 0)), (1, .int a1), (2, .int a2), (3, .int a3), (4, .int a4), (5, .int a5), (6, .int a6), (7, .int a7)]) (G : GW mSh mKs ad dc D A s σ H locs) : W p l e RmX6_doneBy s m args below meth c H locs 0 0 Q (F0 m 134 ls []) := by
  have hx := C0.1
  have hb := C0.2.1
  unfold fX6_doneBy_134 at h
  refine lv_iload hx hb dX6_doneBy_134 (lv_at hl 6 rfl) ?_
  refine lv_iconst (v := (-1)) hx hb dX6_doneBy_136 (by decide +kernel) ?_
  refine lv_icmp_ne (tgt := 144) hx hb dX6_doneBy_137 (by decide) (fun c1 => ?_) (fun c1 => ?_)
  · have h := ite_f h c1
    refine lv_aload_n hx hb dX6_doneBy_144 rfl (lv_at hl 0 rfl) ?_
    refine m_getC C0 G 64 (by decide) rfl q1578 dX6_doneBy_145 ?_
    refine lv_iload hx hb dX6_doneBy_148 (lv_at hl 6 rfl) ?_
    obtain ⟨b_2, h⟩ := ckB_e h
    refine g_iald C0 G (n := 8) (by decide) rfl b_2 dX6_doneBy_150 ?_
    refine lv_aload_n hx hb dX6_doneBy_151 rfl (lv_at hl 0 rfl) ?_
    refine m_getC C0 G 3 (by decide) rfl q1517 dX6_doneBy_152 ?_
    refine lv_bipush (v := 40) hx hb dX6_doneBy_155 (by decide +kernel) ?_
    refine lv_iconst (v := 2) hx hb dX6_doneBy_157 (by decide +kernel) ?_
    refine lv_iload hx hb dX6_doneBy_158 (lv_at hl 6 rfl) ?_
    refine lv_imul hx hb dX6_doneBy_160 ?_
    refine lv_iadd hx hb dX6_doneBy_161 ?_
    obtain ⟨b_3, h⟩ := ckB_e h
    refine g_iald C0 G (n := 8060) (by decide) rfl b_3 dX6_doneBy_162 ?_
    refine lv_iadd hx hb dX6_doneBy_163 ?_
    exact wX6_doneBy_164 C0 a1 a2 a3 a4 a5 a7 ((gA σ 28 a6.toNatClampNeg) + (gA σ 2 (40 + (2 * a6)).toNatClampNeg)) (σ)  _ h Kb Ke0 Ke1 _ _ _ (lv_sub hl [0, 1, 2, 3, 4, 5, 7] rfl) G
  · have h := ite_t h c1
    refine lv_iconst (v := 0) hx hb dX6_doneBy_140 (by decide +kernel) ?_
    refine lv_goto (tgt := 164) hx hb dX6_doneBy_141 (by decide) ?_
    exact wX6_doneBy_164 C0 a1 a2 a3 a4 a5 a7 0 (σ)  _ h Kb Ke0 Ke1 _ _ _ (lv_sub hl [0, 1, 2, 3, 4, 5, 7] rfl) G
set_option maxHeartbeats 400000 in
theorem wbX6_doneBy_96 (C0 : Cx ad dc D RX6 cX6_doneBy 9 p s m args meth c) (a1 : Int32) (a2 : Int32) (a3 : Int32) (a4 : Int32) (a5 : Int32) (a6 : Int32) (a7 : Int32) (a8 : Int32) (σ : St)  (o : (Int32) ⊕ (Int32 × Int32)) (h : bX6_doneBy_96 a1 a2 a3 a4 a5 a6 a7 a8 σ = some o) (Kb : ∀ (b7 : Int32) (b8 : Int32), o = .inr (b7, b8) → ∀ (H : Heap) (locs : List Loc) (ls : Array Slot), lv_has ls 9 [(0, .ref (ad 0)), (1, .int a1), (2, .int a2), (3, .int a3), (4, .int a4), (5, .int a5), (6, .int a6), (7, .int b7), (8, .int b8)] → GW mSh mKs ad dc D A s σ H locs → W p l e RmX6_doneBy s m args below meth c H locs 0 0 Q (F0 m 96 ls [])) (Ke0 : ∀ (b7 : Int32), o = .inl b7 → ∀ (H : Heap) (locs : List Loc) (ls : Array Slot), lv_has ls 9 [(0, .ref (ad 0)), (1, .int a1), (2, .int a2), (3, .int a3), (4, .int a4), (5, .int a5), (6, .int a6), (7, .int b7)] → GW mSh mKs ad dc D A s σ H locs → W p l e RmX6_doneBy s m args below meth c H locs 0 0 Q (F0 m 134 ls [])) (H : Heap) (locs : List Loc) (ls : Array Slot) (hl : lv_has ls 9 [(0, .ref (ad 0)), (1, .int a1), (2, .int a2), (3, .int a3), (4, .int a4), (5, .int a5), (6, .int a6), (7, .int a7), (8, .int a8)]) (G : GW mSh mKs ad dc D A s σ H locs) : W p l e RmX6_doneBy s m args below meth c H locs 0 0 Q (F0 m 96 ls []) := by
  have hx := C0.1
  have hb := C0.2.1
  unfold bX6_doneBy_96 at h
  refine lv_iload hx hb dX6_doneBy_96 (lv_at hl 8 rfl) ?_
  refine lv_iload_n hx hb dX6_doneBy_98 rfl (lv_at hl 1 rfl) ?_
  refine lv_icmp_ge (tgt := 134) hx hb dX6_doneBy_99 (by decide) (fun c1 => ?_) (fun c1 => ?_)
  · have h := ite_t h c1
    cases h
    exact Ke0 a7 rfl _ _ _ (lv_sub hl [0, 1, 2, 3, 4, 5, 6, 7] rfl) G
  · have h := ite_f h c1
    refine lv_aload_n hx hb dX6_doneBy_102 rfl (lv_at hl 0 rfl) ?_
    refine m_getC C0 G 65 (by decide) rfl q1579 dX6_doneBy_103 ?_
    refine lv_iload hx hb dX6_doneBy_106 (lv_at hl 8 rfl) ?_
    obtain ⟨b_2, h⟩ := ckB_e h
    refine g_iald C0 G (n := 3) (by decide) rfl b_2 dX6_doneBy_108 ?_
    refine lv_aload_n hx hb dX6_doneBy_109 rfl (lv_at hl 0 rfl) ?_
    refine m_getC C0 G 65 (by decide) rfl q1579 dX6_doneBy_110 ?_
    refine lv_iload hx hb dX6_doneBy_113 (lv_at hl 7 rfl) ?_
    obtain ⟨b_3, h⟩ := ckB_e h
    refine g_iald C0 G (n := 3) (by decide) rfl b_3 dX6_doneBy_115 ?_
    refine lv_icmp_ge (tgt := 124) hx hb dX6_doneBy_116 (by decide) (fun c4 => ?_) (fun c4 => ?_)
    · have h := ite_t h c4
      refine lv_iload hx hb dX6_doneBy_124 (lv_at hl 7 rfl) ?_
      refine lv_istore (lv' := [(7, .int a7), (0, .ref (ad 0)), (1, .int a1), (2, .int a2), (3, .int a3), (4, .int a4), (5, .int a5), (6, .int a6), (8, .int a8)]) hx hb dX6_doneBy_126 hl (by decide) rfl (fun ls hl => ?_)
      obtain ⟨x5, e_x5⟩ : ∃ z : Int32, z = a8 + 1 := ⟨_, rfl⟩
      have h := letB_e h e_x5
      refine lv_iinc (v := x5) (lv' := [(8, .int x5), (7, .int a7), (0, .ref (ad 0)), (1, .int a1), (2, .int a2), (3, .int a3), (4, .int a4), (5, .int a5), (6, .int a6)]) hx hb dX6_doneBy_128 hl (k := 8) rfl ((congrArg (fun z => a8 + z) (show Int32.ofInt 1 = 1 by decide)).trans e_x5.symm) (by decide) rfl (fun ls hl => ?_)
      refine lv_goto (tgt := 96) hx hb dX6_doneBy_131 (by decide) ?_
      cases h
      exact Kb a7 x5 rfl _ _ _ (lv_sub hl [2, 3, 4, 5, 6, 7, 8, 1, 0] rfl) G
    · have h := ite_f h c4
      refine lv_iload hx hb dX6_doneBy_119 (lv_at hl 8 rfl) ?_
      refine lv_goto (tgt := 126) hx hb dX6_doneBy_121 (by decide) ?_
      refine lv_istore (lv' := [(7, .int a8), (0, .ref (ad 0)), (1, .int a1), (2, .int a2), (3, .int a3), (4, .int a4), (5, .int a5), (6, .int a6), (8, .int a8)]) hx hb dX6_doneBy_126 hl (by decide) rfl (fun ls hl => ?_)
      obtain ⟨x6, e_x6⟩ : ∃ z : Int32, z = a8 + 1 := ⟨_, rfl⟩
      have h := letB_e h e_x6
      refine lv_iinc (v := x6) (lv' := [(8, .int x6), (7, .int a8), (0, .ref (ad 0)), (1, .int a1), (2, .int a2), (3, .int a3), (4, .int a4), (5, .int a5), (6, .int a6)]) hx hb dX6_doneBy_128 hl (k := 8) rfl ((congrArg (fun z => a8 + z) (show Int32.ofInt 1 = 1 by decide)).trans e_x6.symm) (by decide) rfl (fun ls hl => ?_)
      refine lv_goto (tgt := 96) hx hb dX6_doneBy_131 (by decide) ?_
      cases h
      exact Kb a8 x6 rfl _ _ _ (lv_sub hl [2, 3, 4, 5, 6, 7, 8, 1, 0] rfl) G
set_option maxHeartbeats 400000 in
theorem lX6_doneBy_96 (C0 : Cx ad dc D RX6 cX6_doneBy 9 p s m args meth c) (a1 : Int32) (a2 : Int32) (a3 : Int32) (a4 : Int32) (a5 : Int32) (a6 : Int32) (σ : St)  : ∀ (n : Nat) (a7 : Int32) (a8 : Int32) (ex : Int32) (h : iter (fun v : Int32 × Int32 => bX6_doneBy_96 a1 a2 a3 a4 a5 a6 v.1 v.2 σ) n (a7, a8) = some ex) (Ke0 : ∀ (b7 : Int32), ex = b7 → ∀ (H : Heap) (locs : List Loc) (ls : Array Slot), lv_has ls 9 [(0, .ref (ad 0)), (1, .int a1), (2, .int a2), (3, .int a3), (4, .int a4), (5, .int a5), (6, .int a6), (7, .int b7)] → GW mSh mKs ad dc D A s σ H locs → W p l e RmX6_doneBy s m args below meth c H locs 0 0 Q (F0 m 134 ls [])) (H : Heap) (locs : List Loc) (ls : Array Slot) (hl : lv_has ls 9 [(0, .ref (ad 0)), (1, .int a1), (2, .int a2), (3, .int a3), (4, .int a4), (5, .int a5), (6, .int a6), (7, .int a7), (8, .int a8)]) (G : GW mSh mKs ad dc D A s σ H locs), W p l e RmX6_doneBy s m args below meth c H locs 0 0 Q (F0 m 96 ls []) := by
  intro n
  induction n with
  | zero =>
    intro a7 a8 ex h
    cases h
  | succ n ih =>
    intro a7 a8 ex h Ke0 H locs ls hl G
    obtain ⟨r, hb1, hr⟩ := iter_e h
    refine wbX6_doneBy_96 C0 a1 a2 a3 a4 a5 a6 a7 a8 σ  r hb1 ?_ ?_ H locs ls hl G
    · intro b7 b8 hv H locs ls hl G
      subst hv
      rcases hr with hr | ⟨a', hr, h2⟩
      · cases hr
      · rw [← Sum.inr.inj hr] at h2
        exact ih b7 b8 ex h2 Ke0 H locs ls hl G
    · intro b7 hv H locs ls hl G
      subst hv
      rcases hr with hr | ⟨a', hr, h2⟩
      · exact Ke0 b7 (Sum.inl.inj hr).symm H locs ls hl G
      · cases hr
set_option maxHeartbeats 400000 in
theorem wX6_doneBy_96 (C0 : Cx ad dc D RX6 cX6_doneBy 9 p s m args meth c) (a1 : Int32) (a2 : Int32) (a3 : Int32) (a4 : Int32) (a5 : Int32) (a6 : Int32) (a7 : Int32) (a8 : Int32) (σ : St)  (o : ((St) ⊕ (Int32 × St)) ⊕ (Int32 × Int32 × Int32 × St)) (h : fX6_doneBy_96 a1 a2 a3 a4 a5 a6 a7 a8 σ = some o) (Kb : ∀ (b2 : Int32) (b3 : Int32) (b4 : Int32) (σ' : St), o = .inr (b2, b3, b4, σ') → ∀ (H : Heap) (locs : List Loc) (ls : Array Slot), lv_has ls 9 [(0, .ref (ad 0)), (1, .int a1), (2, .int b2), (3, .int b3), (4, .int b4)] → GW mSh mKs ad dc D A s σ' H locs → W p l e RmX6_doneBy s m args below meth c H locs 0 0 Q (F0 m 30 ls [])) (Ke0 : ∀  (σ' : St), o = .inl (.inl (σ')) → ∀ (H : Heap) (locs : List Loc) (ls : Array Slot), lv_has ls 9 [] → GW mSh mKs ad dc D A s σ' H locs → W p l e RmX6_doneBy s m args below meth c H locs 0 0 Q (F0 m 81 ls [])) (Ke1 : ∀ (b3 : Int32) (σ' : St), o = .inl (.inr (b3, σ')) → ∀ (H : Heap) (locs : List Loc) (ls : Array Slot), lv_has ls 9 [(3, .int b3)] → GW mSh mKs ad dc D A s σ' H locs → W p l e RmX6_doneBy s m args below meth c H locs 0 0 Q (F0 m 253 ls [])) (H : Heap) (locs : List Loc) (ls : Array Slot) (hl : lv_has ls 9 [(0, .ref (ad 0)), (1, .int a1), (2, .int a2), (3, .int a3), (4, .int a4), (5, .int a5), (6, .int a6), (7, .int a7), (8, .int a8)]) (G : GW mSh mKs ad dc D A s σ H locs) : W p l e RmX6_doneBy s m args below meth c H locs 0 0 Q (F0 m 96 ls []) := by
  have hx := C0.1
  have hb := C0.2.1
  unfold fX6_doneBy_96 at h
  obtain ⟨ex, h1, h⟩ := bn1_e h
  refine lX6_doneBy_96 C0 a1 a2 a3 a4 a5 a6 σ  FU a7 a8 ex h1 ?_ H locs ls hl G
  · intro b7 hv H locs ls hl G
    rw [hv] at h
    have h : (fX6_doneBy_134 a1 a2 a3 a4 a5 a6 b7 (σ)) = some o := h
    exact wX6_doneBy_134 C0 a1 a2 a3 a4 a5 a6 b7 (σ)  _ h Kb Ke0 Ke1 _ _ _ hl G
set_option maxHeartbeats 400000 in
theorem wX6_doneBy_83 (C0 : Cx ad dc D RX6 cX6_doneBy 9 p s m args meth c) (a1 : Int32) (a2 : Int32) (a3 : Int32) (a4 : Int32) (a5 : Int32) (a6 : Int32) (σ : St)  (o : ((St) ⊕ (Int32 × St)) ⊕ (Int32 × Int32 × Int32 × St)) (h : fX6_doneBy_83 a1 a2 a3 a4 a5 a6 σ = some o) (Kb : ∀ (b2 : Int32) (b3 : Int32) (b4 : Int32) (σ' : St), o = .inr (b2, b3, b4, σ') → ∀ (H : Heap) (locs : List Loc) (ls : Array Slot), lv_has ls 9 [(0, .ref (ad 0)), (1, .int a1), (2, .int b2), (3, .int b3), (4, .int b4)] → GW mSh mKs ad dc D A s σ' H locs → W p l e RmX6_doneBy s m args below meth c H locs 0 0 Q (F0 m 30 ls [])) (Ke0 : ∀  (σ' : St), o = .inl (.inl (σ')) → ∀ (H : Heap) (locs : List Loc) (ls : Array Slot), lv_has ls 9 [] → GW mSh mKs ad dc D A s σ' H locs → W p l e RmX6_doneBy s m args below meth c H locs 0 0 Q (F0 m 81 ls [])) (Ke1 : ∀ (b3 : Int32) (σ' : St), o = .inl (.inr (b3, σ')) → ∀ (H : Heap) (locs : List Loc) (ls : Array Slot), lv_has ls 9 [(3, .int b3)] → GW mSh mKs ad dc D A s σ' H locs → W p l e RmX6_doneBy s m args below meth c H locs 0 0 Q (F0 m 253 ls [])) (H : Heap) (locs : List Loc) (ls : Array Slot) (hl : lv_has ls 9 [(0, .ref (ad 0)), (1, .int a1), (2, .int a2), (3, .int a3), (4, .int a4), (5, .int a5), (6, .int a6)]) (G : GW mSh mKs ad dc D A s σ H locs) : W p l e RmX6_doneBy s m args below meth c H locs 0 0 Q (F0 m 83 ls []) := by
  have hx := C0.1
  have hb := C0.2.1
  unfold fX6_doneBy_83 at h
  refine lv_iload_n hx hb dX6_doneBy_83 rfl (lv_at hl 2 rfl) ?_
  refine lv_iconst (v := 1) hx hb dX6_doneBy_84 (by decide +kernel) ?_
  refine lv_iload hx hb dX6_doneBy_85 (lv_at hl 5 rfl) ?_
  refine lv_ishl hx hb dX6_doneBy_87 ?_
  refine lv_ior hx hb dX6_doneBy_88 ?_
  refine lv_topi (fun x1 e_x1 => ?_)
  have h := letB_e h e_x1
  refine lv_istore_n (lv' := [(2, .int x1), (0, .ref (ad 0)), (1, .int a1), (3, .int a3), (4, .int a4), (5, .int a5), (6, .int a6)]) hx hb dX6_doneBy_89 rfl hl (by decide) rfl (fun ls hl => ?_)
  refine lv_iconst (v := 0) hx hb dX6_doneBy_90 (by decide +kernel) ?_
  refine lv_istore (lv' := [(7, .int 0), (2, .int x1), (0, .ref (ad 0)), (1, .int a1), (3, .int a3), (4, .int a4), (5, .int a5), (6, .int a6)]) hx hb dX6_doneBy_91 hl (by decide) rfl (fun ls hl => ?_)
  refine lv_iconst (v := 1) hx hb dX6_doneBy_93 (by decide +kernel) ?_
  refine lv_istore (lv' := [(8, .int 1), (7, .int 0), (2, .int x1), (0, .ref (ad 0)), (1, .int a1), (3, .int a3), (4, .int a4), (5, .int a5), (6, .int a6)]) hx hb dX6_doneBy_94 hl (by decide) rfl (fun ls hl => ?_)
  exact wX6_doneBy_96 C0 a1 x1 a3 a4 a5 a6 0 1 (σ)  _ h Kb Ke0 Ke1 _ _ _ (lv_sub hl [3, 4, 2, 5, 6, 7, 8, 1, 0] rfl) G
set_option maxHeartbeats 400000 in
theorem wbX6_doneBy_30 (C0 : Cx ad dc D RX6 cX6_doneBy 9 p s m args meth c) (a1 : Int32) (a2 : Int32) (a3 : Int32) (a4 : Int32) (σ : St)  (o : ((St) ⊕ (Int32 × St)) ⊕ (Int32 × Int32 × Int32 × St)) (h : bX6_doneBy_30 a1 a2 a3 a4 σ = some o) (Kb : ∀ (b2 : Int32) (b3 : Int32) (b4 : Int32) (σ' : St), o = .inr (b2, b3, b4, σ') → ∀ (H : Heap) (locs : List Loc) (ls : Array Slot), lv_has ls 9 [(0, .ref (ad 0)), (1, .int a1), (2, .int b2), (3, .int b3), (4, .int b4)] → GW mSh mKs ad dc D A s σ' H locs → W p l e RmX6_doneBy s m args below meth c H locs 0 0 Q (F0 m 30 ls [])) (Ke0 : ∀  (σ' : St), o = .inl (.inl (σ')) → ∀ (H : Heap) (locs : List Loc) (ls : Array Slot), lv_has ls 9 [] → GW mSh mKs ad dc D A s σ' H locs → W p l e RmX6_doneBy s m args below meth c H locs 0 0 Q (F0 m 81 ls [])) (Ke1 : ∀ (b3 : Int32) (σ' : St), o = .inl (.inr (b3, σ')) → ∀ (H : Heap) (locs : List Loc) (ls : Array Slot), lv_has ls 9 [(3, .int b3)] → GW mSh mKs ad dc D A s σ' H locs → W p l e RmX6_doneBy s m args below meth c H locs 0 0 Q (F0 m 253 ls [])) (H : Heap) (locs : List Loc) (ls : Array Slot) (hl : lv_has ls 9 [(0, .ref (ad 0)), (1, .int a1), (2, .int a2), (3, .int a3), (4, .int a4)]) (G : GW mSh mKs ad dc D A s σ H locs) : W p l e RmX6_doneBy s m args below meth c H locs 0 0 Q (F0 m 30 ls []) := by
  have hx := C0.1
  have hb := C0.2.1
  unfold bX6_doneBy_30 at h
  refine lv_iload hx hb dX6_doneBy_30 (lv_at hl 4 rfl) ?_
  refine lv_aload_n hx hb dX6_doneBy_32 rfl (lv_at hl 0 rfl) ?_
  refine m_getC C0 G 3 (by decide) rfl q1517 dX6_doneBy_33 ?_
  refine lv_iconst (v := 2) hx hb dX6_doneBy_36 (by decide +kernel) ?_
  obtain ⟨b_1, h⟩ := ckB_e h
  refine g_iald C0 G (n := 8060) (by decide) rfl b_1 dX6_doneBy_37 ?_
  refine lv_icmp_ge (tgt := 253) hx hb dX6_doneBy_38 (by decide) (fun c2 => ?_) (fun c2 => ?_)
  · have h := ite_t h c2
    cases h
    exact Ke1 a3 (σ) rfl _ _ _ (lv_sub hl [3] rfl) G
  · have h := ite_f h c2
    refine lv_aload_n hx hb dX6_doneBy_41 rfl (lv_at hl 0 rfl) ?_
    refine m_getC C0 G 63 (by decide) rfl q1577 dX6_doneBy_42 ?_
    refine lv_iload hx hb dX6_doneBy_45 (lv_at hl 4 rfl) ?_
    obtain ⟨b_3, h⟩ := ckB_e h
    refine g_iald C0 G (n := 8) (by decide) rfl b_3 dX6_doneBy_47 ?_
    refine lv_topi (fun x4 e_x4 => ?_)
    have h := letB_e h e_x4
    refine lv_istore (lv' := [(5, .int x4), (0, .ref (ad 0)), (1, .int a1), (2, .int a2), (3, .int a3), (4, .int a4)]) hx hb dX6_doneBy_48 hl (by decide) rfl (fun ls hl => ?_)
    refine lv_aload_n hx hb dX6_doneBy_50 rfl (lv_at hl 1 rfl) ?_
    refine m_getC C0 G 3 (by decide) rfl q1517 dX6_doneBy_51 ?_
    refine lv_bipush (v := 40) hx hb dX6_doneBy_54 (by decide +kernel) ?_
    refine lv_iconst (v := 2) hx hb dX6_doneBy_56 (by decide +kernel) ?_
    refine lv_iload hx hb dX6_doneBy_57 (lv_at hl 0 rfl) ?_
    refine lv_imul hx hb dX6_doneBy_59 ?_
    refine lv_iadd hx hb dX6_doneBy_60 ?_
    refine lv_iconst (v := 1) hx hb dX6_doneBy_61 (by decide +kernel) ?_
    refine lv_iadd hx hb dX6_doneBy_62 ?_
    obtain ⟨b_5, h⟩ := ckB_e h
    refine g_iald C0 G (n := 8060) (by decide) rfl b_5 dX6_doneBy_63 ?_
    refine lv_topi (fun x6 e_x6 => ?_)
    have h := letB_e h e_x6
    refine lv_istore (lv' := [(6, .int x6), (5, .int x4), (0, .ref (ad 0)), (1, .int a1), (2, .int a2), (3, .int a3), (4, .int a4)]) hx hb dX6_doneBy_64 hl (by decide) rfl (fun ls hl => ?_)
    refine lv_iload hx hb dX6_doneBy_66 (lv_at hl 0 rfl) ?_
    refine lv_iconst (v := (-1)) hx hb dX6_doneBy_68 (by decide +kernel) ?_
    refine lv_icmp_eq (tgt := 83) hx hb dX6_doneBy_69 (by decide) (fun c7 => ?_) (fun c7 => ?_)
    · have h := ite_t h c7
      exact wX6_doneBy_83 C0 a1 a2 a3 a4 x4 x6 (σ)  _ h Kb Ke0 Ke1 _ _ _ (lv_sub hl [2, 3, 4, 5, 6, 1, 0] rfl) G
    · have h := ite_f h c7
      refine lv_iload_n hx hb dX6_doneBy_72 rfl (lv_at hl 4 rfl) ?_
      refine lv_iload hx hb dX6_doneBy_73 (lv_at hl 0 rfl) ?_
      refine lv_ishr hx hb dX6_doneBy_75 ?_
      refine lv_iconst (v := 1) hx hb dX6_doneBy_76 (by decide +kernel) ?_
      refine lv_iand hx hb dX6_doneBy_77 ?_
      refine lv_if_ne (tgt := 83) hx hb dX6_doneBy_78 (by decide) (fun c8 => ?_) (fun c8 => ?_)
      · have h := ite_f h c8
        exact wX6_doneBy_83 C0 a1 a2 a3 a4 x4 x6 (σ)  _ h Kb Ke0 Ke1 _ _ _ (lv_sub hl [2, 3, 4, 5, 6, 1, 0] rfl) G
      · have h := ite_t h c8
        cases h
        exact Ke0 (σ) rfl _ _ _ (lv_sub hl [] rfl) G
set_option maxHeartbeats 400000 in
theorem lX6_doneBy_30 (C0 : Cx ad dc D RX6 cX6_doneBy 9 p s m args meth c) (a1 : Int32)   : ∀ (n : Nat) (a2 : Int32) (a3 : Int32) (a4 : Int32) (σ : St) (ex : (St) ⊕ (Int32 × St)) (h : iter (fun v : Int32 × Int32 × Int32 × St => bX6_doneBy_30 a1 v.1 v.2.1 v.2.2.1 v.2.2.2) n (a2, a3, a4, σ) = some ex) (Ke0 : ∀  (σ' : St), ex = (.inl (σ')) → ∀ (H : Heap) (locs : List Loc) (ls : Array Slot), lv_has ls 9 [] → GW mSh mKs ad dc D A s σ' H locs → W p l e RmX6_doneBy s m args below meth c H locs 0 0 Q (F0 m 81 ls [])) (Ke1 : ∀ (b3 : Int32) (σ' : St), ex = (.inr (b3, σ')) → ∀ (H : Heap) (locs : List Loc) (ls : Array Slot), lv_has ls 9 [(3, .int b3)] → GW mSh mKs ad dc D A s σ' H locs → W p l e RmX6_doneBy s m args below meth c H locs 0 0 Q (F0 m 253 ls [])) (H : Heap) (locs : List Loc) (ls : Array Slot) (hl : lv_has ls 9 [(0, .ref (ad 0)), (1, .int a1), (2, .int a2), (3, .int a3), (4, .int a4)]) (G : GW mSh mKs ad dc D A s σ H locs), W p l e RmX6_doneBy s m args below meth c H locs 0 0 Q (F0 m 30 ls []) := by
  intro n
  induction n with
  | zero =>
    intro a2 a3 a4 σ ex h
    cases h
  | succ n ih =>
    intro a2 a3 a4 σ ex h Ke0 Ke1 H locs ls hl G
    obtain ⟨r, hb1, hr⟩ := iter_e h
    refine wbX6_doneBy_30 C0 a1 a2 a3 a4 σ  r hb1 ?_ ?_ ?_ H locs ls hl G
    · intro b2 b3 b4 σ' hv H locs ls hl G
      subst hv
      rcases hr with hr | ⟨a', hr, h2⟩
      · cases hr
      · rw [← Sum.inr.inj hr] at h2
        exact ih b2 b3 b4 σ' ex h2 Ke0 Ke1 H locs ls hl G
    · intro σ' hv H locs ls hl G
      subst hv
      rcases hr with hr | ⟨a', hr, h2⟩
      · exact Ke0 σ' (Sum.inl.inj hr).symm H locs ls hl G
      · cases hr
    · intro b3 σ' hv H locs ls hl G
      subst hv
      rcases hr with hr | ⟨a', hr, h2⟩
      · exact Ke1 b3 σ' (Sum.inl.inj hr).symm H locs ls hl G
      · cases hr
set_option maxHeartbeats 400000 in
theorem wX6_doneBy_30 (C0 : Cx ad dc D RX6 cX6_doneBy 9 p s m args meth c) (a1 : Int32) (a2 : Int32) (a3 : Int32) (a4 : Int32) (σ : St)  (o : Int32 × St) (h : fX6_doneBy_30 a1 a2 a3 a4 σ = some o) (Kr : KrI p l e RmX6_doneBy s m args below meth c cX6_doneBy Q (GW mSh mKs ad dc D A s (o.2)) o.1) (H : Heap) (locs : List Loc) (ls : Array Slot) (hl : lv_has ls 9 [(0, .ref (ad 0)), (1, .int a1), (2, .int a2), (3, .int a3), (4, .int a4)]) (G : GW mSh mKs ad dc D A s σ H locs) : W p l e RmX6_doneBy s m args below meth c H locs 0 0 Q (F0 m 30 ls []) := by
  have hx := C0.1
  have hb := C0.2.1
  unfold fX6_doneBy_30 at h
  obtain ⟨ex, h1, h⟩ := bn1_e h
  refine lX6_doneBy_30 C0 a1   FU a2 a3 a4 σ ex h1 ?_ ?_ H locs ls hl G
  · intro σ' hv H locs ls hl G
    rw [hv] at h
    have h : (some ((-1), σ')) = some o := h
    refine lv_iconst (v := (-1)) hx hb dX6_doneBy_81 (by decide +kernel) ?_
    cases h
    exact Kr _ _ _ _ dX6_doneBy_82 G
  · intro b3 σ' hv H locs ls hl G
    rw [hv] at h
    have h : (some (b3, σ')) = some o := h
    refine lv_iload_n hx hb dX6_doneBy_253 rfl (lv_at hl 0 rfl) ?_
    cases h
    exact Kr _ _ _ _ dX6_doneBy_254 G
set_option maxHeartbeats 400000 in
theorem wbX6_doneBy_7 (C0 : Cx ad dc D RX6 cX6_doneBy 9 p s m args meth c) (a1 : Int32) (a2 : Int32) (a3 : Int32) (a4 : Int32) (σ : St)  (o : (St) ⊕ (Int32 × St)) (h : bX6_doneBy_7 a1 a2 a3 a4 σ = some o) (Kb : ∀ (b4 : Int32) (σ' : St), o = .inr (b4, σ') → ∀ (H : Heap) (locs : List Loc) (ls : Array Slot), lv_has ls 9 [(0, .ref (ad 0)), (1, .int a1), (2, .int a2), (3, .int a3), (4, .int b4)] → GW mSh mKs ad dc D A s σ' H locs → W p l e RmX6_doneBy s m args below meth c H locs 0 0 Q (F0 m 7 ls [])) (Ke0 : ∀  (σ' : St), o = .inl (σ') → ∀ (H : Heap) (locs : List Loc) (ls : Array Slot), lv_has ls 9 [(0, .ref (ad 0)), (1, .int a1), (2, .int a2), (3, .int a3)] → GW mSh mKs ad dc D A s σ' H locs → W p l e RmX6_doneBy s m args below meth c H locs 0 0 Q (F0 m 27 ls [])) (H : Heap) (locs : List Loc) (ls : Array Slot) (hl : lv_has ls 9 [(0, .ref (ad 0)), (1, .int a1), (2, .int a2), (3, .int a3), (4, .int a4)]) (G : GW mSh mKs ad dc D A s σ H locs) : W p l e RmX6_doneBy s m args below meth c H locs 0 0 Q (F0 m 7 ls []) := by
  have hx := C0.1
  have hb := C0.2.1
  unfold bX6_doneBy_7 at h
  refine lv_iload hx hb dX6_doneBy_7 (lv_at hl 4 rfl) ?_
  refine lv_iconst (v := 3) hx hb dX6_doneBy_9 (by decide +kernel) ?_
  refine lv_icmp_ge (tgt := 27) hx hb dX6_doneBy_10 (by decide) (fun c1 => ?_) (fun c1 => ?_)
  · have h := ite_t h c1
    cases h
    exact Ke0 (σ) rfl _ _ _ (lv_sub hl [0, 1, 2, 3] rfl) G
  · have h := ite_f h c1
    refine lv_aload_n hx hb dX6_doneBy_13 rfl (lv_at hl 0 rfl) ?_
    refine m_getC C0 G 65 (by decide) rfl q1579 dX6_doneBy_14 ?_
    refine lv_iload hx hb dX6_doneBy_17 (lv_at hl 4 rfl) ?_
    refine lv_iconst (v := 0) hx hb dX6_doneBy_19 (by decide +kernel) ?_
    obtain ⟨b_2, h⟩ := ckB_e h
    refine g_iast C0 G (n := 3) (by decide) rfl b_2 dX6_doneBy_20 (fun σ3 H locs e_σ3 G => ?_)
    have h := letB_e h e_σ3
    obtain ⟨x4, e_x4⟩ : ∃ z : Int32, z = a4 + 1 := ⟨_, rfl⟩
    have h := letB_e h e_x4
    refine lv_iinc (v := x4) (lv' := [(4, .int x4), (0, .ref (ad 0)), (1, .int a1), (2, .int a2), (3, .int a3)]) hx hb dX6_doneBy_21 hl (k := 4) rfl ((congrArg (fun z => a4 + z) (show Int32.ofInt 1 = 1 by decide)).trans e_x4.symm) (by decide) rfl (fun ls hl => ?_)
    refine lv_goto (tgt := 7) hx hb dX6_doneBy_24 (by decide) ?_
    cases h
    exact Kb x4 (σ3) rfl _ _ _ (lv_sub hl [1, 2, 3, 4, 0] rfl) G
set_option maxHeartbeats 400000 in
theorem lX6_doneBy_7 (C0 : Cx ad dc D RX6 cX6_doneBy 9 p s m args meth c) (a1 : Int32) (a2 : Int32) (a3 : Int32)   : ∀ (n : Nat) (a4 : Int32) (σ : St) (ex : St) (h : iter (fun v : Int32 × St => bX6_doneBy_7 a1 a2 a3 v.1 v.2) n (a4, σ) = some ex) (Ke0 : ∀  (σ' : St), ex = σ' → ∀ (H : Heap) (locs : List Loc) (ls : Array Slot), lv_has ls 9 [(0, .ref (ad 0)), (1, .int a1), (2, .int a2), (3, .int a3)] → GW mSh mKs ad dc D A s σ' H locs → W p l e RmX6_doneBy s m args below meth c H locs 0 0 Q (F0 m 27 ls [])) (H : Heap) (locs : List Loc) (ls : Array Slot) (hl : lv_has ls 9 [(0, .ref (ad 0)), (1, .int a1), (2, .int a2), (3, .int a3), (4, .int a4)]) (G : GW mSh mKs ad dc D A s σ H locs), W p l e RmX6_doneBy s m args below meth c H locs 0 0 Q (F0 m 7 ls []) := by
  intro n
  induction n with
  | zero =>
    intro a4 σ ex h
    cases h
  | succ n ih =>
    intro a4 σ ex h Ke0 H locs ls hl G
    obtain ⟨r, hb1, hr⟩ := iter_e h
    refine wbX6_doneBy_7 C0 a1 a2 a3 a4 σ  r hb1 ?_ ?_ H locs ls hl G
    · intro b4 σ' hv H locs ls hl G
      subst hv
      rcases hr with hr | ⟨a', hr, h2⟩
      · cases hr
      · rw [← Sum.inr.inj hr] at h2
        exact ih b4 σ' ex h2 Ke0 H locs ls hl G
    · intro σ' hv H locs ls hl G
      subst hv
      rcases hr with hr | ⟨a', hr, h2⟩
      · exact Ke0 σ' (Sum.inl.inj hr).symm H locs ls hl G
      · cases hr
set_option maxHeartbeats 400000 in
theorem wX6_doneBy_7 (C0 : Cx ad dc D RX6 cX6_doneBy 9 p s m args meth c) (a1 : Int32) (a2 : Int32) (a3 : Int32) (a4 : Int32) (σ : St)  (o : Int32 × St) (h : fX6_doneBy_7 a1 a2 a3 a4 σ = some o) (Kr : KrI p l e RmX6_doneBy s m args below meth c cX6_doneBy Q (GW mSh mKs ad dc D A s (o.2)) o.1) (H : Heap) (locs : List Loc) (ls : Array Slot) (hl : lv_has ls 9 [(0, .ref (ad 0)), (1, .int a1), (2, .int a2), (3, .int a3), (4, .int a4)]) (G : GW mSh mKs ad dc D A s σ H locs) : W p l e RmX6_doneBy s m args below meth c H locs 0 0 Q (F0 m 7 ls []) := by
  have hx := C0.1
  have hb := C0.2.1
  unfold fX6_doneBy_7 at h
  obtain ⟨ex, h1, h⟩ := bn1_e h
  refine lX6_doneBy_7 C0 a1 a2 a3   FU a4 σ ex h1 ?_ H locs ls hl G
  · intro σ' hv H locs ls hl G
    rw [hv] at h
    have h : (fX6_doneBy_30 a1 a2 a3 0 (σ')) = some o := h
    refine lv_iconst (v := 0) hx hb dX6_doneBy_27 (by decide +kernel) ?_
    refine lv_istore (lv' := [(4, .int 0), (0, .ref (ad 0)), (1, .int a1), (2, .int a2), (3, .int a3)]) hx hb dX6_doneBy_28 hl (by decide) rfl (fun ls hl => ?_)
    exact wX6_doneBy_30 C0 a1 a2 a3 0 (σ')  _ h Kr _ _ _ (lv_sub hl [1, 2, 3, 4, 0] rfl) G
set_option maxHeartbeats 400000 in
theorem wX6_doneBy_0 (C0 : Cx ad dc D RX6 cX6_doneBy 9 p s m args meth c) (a1 : Int32) (σ : St)  (o : Int32 × St) (h : fX6_doneBy a1 σ = some o) (Kr : KrI p l e RmX6_doneBy s m args below meth c cX6_doneBy Q (GW mSh mKs ad dc D A s (o.2)) o.1) (H : Heap) (locs : List Loc) (ls : Array Slot) (hl : lv_has ls 9 [(0, .ref (ad 0)), (1, .int a1)]) (G : GW mSh mKs ad dc D A s σ H locs) : W p l e RmX6_doneBy s m args below meth c H locs 0 0 Q (F0 m 0 ls []) := by
  have hx := C0.1
  have hb := C0.2.1
  unfold fX6_doneBy at h
  refine lv_iconst (v := 0) hx hb dX6_doneBy_0 (by decide +kernel) ?_
  refine lv_istore_n (lv' := [(2, .int 0), (0, .ref (ad 0)), (1, .int a1)]) hx hb dX6_doneBy_1 rfl hl (by decide) rfl (fun ls hl => ?_)
  refine lv_iconst (v := 0) hx hb dX6_doneBy_2 (by decide +kernel) ?_
  refine lv_istore_n (lv' := [(3, .int 0), (2, .int 0), (0, .ref (ad 0)), (1, .int a1)]) hx hb dX6_doneBy_3 rfl hl (by decide) rfl (fun ls hl => ?_)
  refine lv_iconst (v := 0) hx hb dX6_doneBy_4 (by decide +kernel) ?_
  refine lv_istore (lv' := [(4, .int 0), (3, .int 0), (2, .int 0), (0, .ref (ad 0)), (1, .int a1)]) hx hb dX6_doneBy_5 hl (by decide) rfl (fun ls hl => ?_)
  exact wX6_doneBy_7 C0 a1 0 0 0 (σ)  _ h Kr _ _ _ (lv_sub hl [3, 4, 2, 1, 0] rfl) G
theorem kX6_doneBy {l : Launch} {ad : Nat → Nat} {dc : Nat → ClassId} {D : va_G} {A : Nat → Prop}  (hi : ∀ i j, ad i = ad j → i = j) (hA : ∀ k, k ∈ mKs → A (ad k)) {σ : St} {a1 : Int32} {r : Int32} {σ' : St}  (h : fX6_doneBy a1 σ = some (r, σ')) : Met l yX6_doneBy (ws_ yX6_doneBy cX6_doneBy 9 (some .int)) RmX6_doneBy (gPc mSh mKs ad dc D σ [.ref (ad 0), .int a1]) (gQi mSh mKs ad dc D A σ' r) 0 0 A :=
  g_metI (by decide) rfl hi mKs_nd hA (Nat.le_of_ble_eq_true rfl) (fun p e s m below meth c Q C0 Kr ls hl G => wX6_doneBy_0 C0 a1 σ  (r, σ') h Kr _ _ ls hl G)
-- X6_exchange
abbrev RmX6_exchange : Room := { frames := 0, cells := 0, slots := 0, locals := 0 }
theorem hdX6_exchange : yX6_exchange.cls = RX6 ∧ yX6_exchange.cls ≠ "java/lang/invoke/MethodHandle" ∧ yX6_exchange.cls ≠ "java/lang/invoke/VarHandle" ∧ (parseMethodDescriptor yX6_exchange.desc).map (fun d => d.parameters.length) = some 2 := by decide +kernel
set_option maxHeartbeats 400000 in
theorem wX6_exchange_0 (C0 : Cx ad dc D RX6 cX6_exchange 4 p s m args meth c) (a1 : Int32) (a2 : Int32) (σ : St)  (o : St) (h : fX6_exchange a1 a2 σ = some o) (Kr : KrV p l e RmX6_exchange s m args below meth c cX6_exchange Q (GW mSh mKs ad dc D A s o)) (H : Heap) (locs : List Loc) (ls : Array Slot) (hl : lv_has ls 4 [(0, .ref (ad 0)), (1, .int a1), (2, .int a2)]) (G : GW mSh mKs ad dc D A s σ H locs) : W p l e RmX6_exchange s m args below meth c H locs 0 0 Q (F0 m 0 ls []) := by
  have hx := C0.1
  have hb := C0.2.1
  unfold fX6_exchange at h
  refine lv_aload_n hx hb dX6_exchange_0 rfl (lv_at hl 0 rfl) ?_
  refine m_getC C0 G 63 (by decide) rfl q1577 dX6_exchange_1 ?_
  refine lv_iload_n hx hb dX6_exchange_4 rfl (lv_at hl 1 rfl) ?_
  obtain ⟨b_1, h⟩ := ckB_e h
  refine g_iald C0 G (n := 8) (by decide) rfl b_1 dX6_exchange_5 ?_
  refine lv_topi (fun x2 e_x2 => ?_)
  have h := letB_e h e_x2
  refine lv_istore_n (lv' := [(3, .int x2), (0, .ref (ad 0)), (1, .int a1), (2, .int a2)]) hx hb dX6_exchange_6 rfl hl (by decide) rfl (fun ls hl => ?_)
  refine lv_aload_n hx hb dX6_exchange_7 rfl (lv_at hl 1 rfl) ?_
  refine m_getC C0 G 63 (by decide) rfl q1577 dX6_exchange_8 ?_
  refine lv_iload_n hx hb dX6_exchange_11 rfl (lv_at hl 2 rfl) ?_
  refine lv_aload_n hx hb dX6_exchange_12 rfl (lv_at hl 1 rfl) ?_
  refine m_getC C0 G 63 (by decide) rfl q1577 dX6_exchange_13 ?_
  refine lv_iload_n hx hb dX6_exchange_16 rfl (lv_at hl 3 rfl) ?_
  obtain ⟨b_3, h⟩ := ckB_e h
  refine g_iald C0 G (n := 8) (by decide) rfl b_3 dX6_exchange_17 ?_
  obtain ⟨b_4, h⟩ := ckB_e h
  refine g_iast C0 G (n := 8) (by decide) rfl b_4 dX6_exchange_18 (fun σ5 H locs e_σ5 G => ?_)
  have h := letB_e h e_σ5
  refine lv_aload_n hx hb dX6_exchange_19 rfl (lv_at hl 1 rfl) ?_
  refine m_getC C0 G 63 (by decide) rfl q1577 dX6_exchange_20 ?_
  refine lv_iload_n hx hb dX6_exchange_23 rfl (lv_at hl 3 rfl) ?_
  refine lv_iload_n hx hb dX6_exchange_24 rfl (lv_at hl 0 rfl) ?_
  obtain ⟨b_6, h⟩ := ckB_e h
  refine g_iast C0 G (n := 8) (by decide) rfl b_6 dX6_exchange_25 (fun σ7 H locs e_σ7 G => ?_)
  have h := letB_e h e_σ7
  cases h
  exact Kr _ _ _ _ dX6_exchange_26 G
theorem kX6_exchange {l : Launch} {ad : Nat → Nat} {dc : Nat → ClassId} {D : va_G} {A : Nat → Prop}  (hi : ∀ i j, ad i = ad j → i = j) (hA : ∀ k, k ∈ mKs → A (ad k)) {σ : St} {a1 : Int32} {a2 : Int32}  {σ' : St}  (h : fX6_exchange a1 a2 σ = some (σ')) : Met l yX6_exchange (ws_ yX6_exchange cX6_exchange 4 none) RmX6_exchange (gPc mSh mKs ad dc D σ [.ref (ad 0), .int a1, .int a2]) (gQv mSh mKs ad dc D A σ') 0 0 A :=
  g_metV (by decide) rfl hi mKs_nd hA (Nat.le_of_ble_eq_true rfl) (fun p e s m below meth c Q C0 Kr ls hl G => wX6_exchange_0 C0 a1 a2 σ  (σ') h Kr _ _ ls hl G)
end
