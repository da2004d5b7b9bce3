/-! HotIronModel: the walks of its methods, 4 -/
set_option maxRecDepth 100000
section
variable {p : Program} {l : Launch} {e : Env} {s : State} {m : MethodId} {args : Array Value} {below : List Frame} {meth : Method} {c : Code} {Q : State → Prop} {ad : Nat → Nat} {dc : Nat → ClassId} {D : va_G} {A : Nat → Prop}
-- X6_nextOrder
abbrev RmX6_nextOrder : Room := { frames := 1, cells := 0, slots := 0, locals := 23 }
theorem hdX6_nextOrder : yX6_nextOrder.cls = RX6 ∧ yX6_nextOrder.cls ≠ "java/lang/invoke/MethodHandle" ∧ yX6_nextOrder.cls ≠ "java/lang/invoke/VarHandle" ∧ (parseMethodDescriptor yX6_nextOrder.desc).map (fun d => d.parameters.length) = some 0 := by decide +kernel
set_option maxHeartbeats 400000 in
theorem wbX6_nextOrder_85 (C0 : Cx ad dc D RX6 cX6_nextOrder 6 p s m args meth c) (a4 : Int32) (a5 : Int32) (σ : St)  (o : (St) ⊕ (Int32 × Int32 × St)) (h : bX6_nextOrder_85 a4 a5 σ = some o) (Kb : ∀ (b4 : Int32) (b5 : Int32) (σ' : St), o = .inr (b4, b5, σ') → ∀ (H : Heap) (locs : List Loc) (ls : Array Slot), lv_has ls 6 [(0, .ref (ad 0)), (4, .int b4), (5, .int b5)] → GW mSh mKs ad dc D A s σ' H locs → W p l e RmX6_nextOrder s m args below meth c H locs 0 0 Q (F0 m 85 ls [])) (Ke0 : ∀  (σ' : St), o = .inl (σ') → ∀ (H : Heap) (locs : List Loc) (ls : Array Slot), lv_has ls 6 [] → GW mSh mKs ad dc D A s σ' H locs → W p l e RmX6_nextOrder s m args below meth c H locs 0 0 Q (F0 m 109 ls [])) (H : Heap) (locs : List Loc) (ls : Array Slot) (hl : lv_has ls 6 [(0, .ref (ad 0)), (4, .int a4), (5, .int a5)]) (G : GW mSh mKs ad dc D A s σ H locs) : W p l e RmX6_nextOrder s m args below meth c H locs 0 0 Q (F0 m 85 ls []) := by
  have hx := C0.1
  have hb := C0.2.1
  unfold bX6_nextOrder_85 at h
  refine lv_iload hx hb dX6_nextOrder_85 (lv_at hl 1 rfl) ?_
  refine lv_iload hx hb dX6_nextOrder_87 (lv_at hl 2 rfl) ?_
  refine lv_icmp_ge (tgt := 109) hx hb dX6_nextOrder_89 (by decide) (fun c1 => ?_) (fun c1 => ?_)
  · have h := ite_t h c1
    cases h
    exact Ke0 (σ) rfl _ _ _ (lv_sub hl [] rfl) G
  · have h := ite_f h c1
    refine lv_aload_n hx hb dX6_nextOrder_92 rfl (lv_at hl 0 rfl) ?_
    refine lv_iload hx hb dX6_nextOrder_93 (lv_at hl 1 rfl) ?_
    refine lv_iload hx hb dX6_nextOrder_95 (lv_at hl 2 rfl) ?_
    obtain ⟨σ3, h_r2, h⟩ := bn1_e h
    refine g_callVv (rest := []) C0 G hl (ci := 6) rfl (by decide) rfl (kX6_exchange (l := l) C0.2.2.2.2.2.2.1 G.2.2.2 h_r2) (cwV 2 C0.2.2.2.2.1 (lw_V q2104 q2106 qs103 q114 q2107) rfl rfl rfl hdX6_exchange ⟨Nat.le_of_ble_eq_true rfl, Nat.le_of_ble_eq_true rfl⟩) rfl (Nat.le_of_ble_eq_true rfl) dX6_nextOrder_97 ⟨Nat.zero_le _, Nat.zero_le _⟩ (fun H locs G => ?_)
    obtain ⟨x4, e_x4⟩ : ∃ z : Int32, z = a4 + 1 := ⟨_, rfl⟩
    have h := letB_e h e_x4
    refine lv_iinc (v := x4) (lv' := [(4, .int x4), (0, .ref (ad 0)), (5, .int a5)]) hx hb dX6_nextOrder_100 hl (k := 1) rfl ((congrArg (fun z => a4 + z) (show Int32.ofInt 1 = 1 by decide)).trans e_x4.symm) (by decide) rfl (fun ls hl => ?_)
    obtain ⟨x5, e_x5⟩ : ∃ z : Int32, z = a5 + (-1) := ⟨_, rfl⟩
    have h := letB_e h e_x5
    refine lv_iinc (v := x5) (lv' := [(5, .int x5), (4, .int x4), (0, .ref (ad 0))]) hx hb dX6_nextOrder_103 hl (k := 2) rfl ((congrArg (fun z => a5 + z) (show Int32.ofInt (-1) = (-1) by decide)).trans e_x5.symm) (by decide) rfl (fun ls hl => ?_)
    refine lv_goto (tgt := 85) hx hb dX6_nextOrder_106 (by decide) ?_
    cases h
    exact Kb x4 x5 (σ3) rfl _ _ _ (lv_sub hl [2, 1, 0] rfl) G
set_option maxHeartbeats 400000 in
theorem lX6_nextOrder_85 (C0 : Cx ad dc D RX6 cX6_nextOrder 6 p s m args meth c)    : ∀ (n : Nat) (a4 : Int32) (a5 : Int32) (σ : St) (ex : St) (h : iter (fun v : Int32 × Int32 × St => bX6_nextOrder_85 v.1 v.2.1 v.2.2) n (a4, a5, σ) = some ex) (Ke0 : ∀  (σ' : St), ex = σ' → ∀ (H : Heap) (locs : List Loc) (ls : Array Slot), lv_has ls 6 [] → GW mSh mKs ad dc D A s σ' H locs → W p l e RmX6_nextOrder s m args below meth c H locs 0 0 Q (F0 m 109 ls [])) (H : Heap) (locs : List Loc) (ls : Array Slot) (hl : lv_has ls 6 [(0, .ref (ad 0)), (4, .int a4), (5, .int a5)]) (G : GW mSh mKs ad dc D A s σ H locs), W p l e RmX6_nextOrder s m args below meth c H locs 0 0 Q (F0 m 85 ls []) := by
  intro n
  induction n with
  | zero =>
    intro a4 a5 σ ex h
    cases h
  | succ n ih =>
    intro a4 a5 σ ex h Ke0 H locs ls hl G
    obtain ⟨r, hb1, hr⟩ := iter_e h
    refine wbX6_nextOrder_85 C0 a4 a5 σ  r hb1 ?_ ?_ H locs ls hl G
    · intro b4 b5 σ' hv H locs ls hl G
      subst hv
      rcases hr with hr | ⟨a', hr, h2⟩
      · cases hr
      · rw [← Sum.inr.inj hr] at h2
        exact ih b4 b5 σ' ex h2 Ke0 H locs ls hl G
    · intro σ' hv H locs ls hl G
      subst hv
      rcases hr with hr | ⟨a', hr, h2⟩
      · exact Ke0 σ' (Sum.inl.inj hr).symm H locs ls hl G
      · cases hr
set_option maxHeartbeats 400000 in
theorem wX6_nextOrder_85 (C0 : Cx ad dc D RX6 cX6_nextOrder 6 p s m args meth c) (a4 : Int32) (a5 : Int32) (σ : St)  (o : Int32 × St) (h : fX6_nextOrder_85 a4 a5 σ = some o) (Kr : KrZ p l e RmX6_nextOrder s m args below meth c cX6_nextOrder Q (GW mSh mKs ad dc D A s (o.2)) o.1) (H : Heap) (locs : List Loc) (ls : Array Slot) (hl : lv_has ls 6 [(0, .ref (ad 0)), (4, .int a4), (5, .int a5)]) (G : GW mSh mKs ad dc D A s σ H locs) : W p l e RmX6_nextOrder s m args below meth c H locs 0 0 Q (F0 m 85 ls []) := by
  have hx := C0.1
  have hb := C0.2.1
  unfold fX6_nextOrder_85 at h
  obtain ⟨ex, h1, h⟩ := bn1_e h
  refine lX6_nextOrder_85 C0    FU a4 a5 σ ex h1 ?_ H locs ls hl G
  · intro σ' hv H locs ls hl G
    rw [hv] at h
    have h : (some (1, σ')) = some o := h
    refine lv_iconst (v := 1) hx hb dX6_nextOrder_109 (by decide +kernel) ?_
    cases h
    exact Kr _ _ _ _ dX6_nextOrder_110 (zz_nar (y := 1) (by decide)).1 G
set_option maxHeartbeats 400000 in
theorem wX6_nextOrder_69 (C0 : Cx ad dc D RX6 cX6_nextOrder 6 p s m args meth c) (a1 : Int32) (a2 : Int32) (a3 : Int32) (σ : St)  (o : Int32 × St) (h : fX6_nextOrder_69 a1 a2 a3 σ = some o) (Kr : KrZ p l e RmX6_nextOrder s m args below meth c cX6_nextOrder Q (GW mSh mKs ad dc D A s (o.2)) o.1) (H : Heap) (locs : List Loc) (ls : Array Slot) (hl : lv_has ls 6 [(0, .ref (ad 0)), (1, .int a1), (2, .int a2), (3, .int a3)]) (G : GW mSh mKs ad dc D A s σ H locs) : W p l e RmX6_nextOrder s m args below meth c H locs 0 0 Q (F0 m 69 ls []) := by
  have hx := C0.1
  have hb := C0.2.1
  unfold fX6_nextOrder_69 at h
  refine lv_aload_n hx hb dX6_nextOrder_69 rfl (lv_at hl 0 rfl) ?_
  refine lv_iload_n hx hb dX6_nextOrder_70 rfl (lv_at hl 2 rfl) ?_
  refine lv_iload_n hx hb dX6_nextOrder_71 rfl (lv_at hl 3 rfl) ?_
  obtain ⟨σ2, h_r1, h⟩ := bn1_e h
  refine g_callVv (rest := []) C0 G hl (ci := 6) rfl (by decide) rfl (kX6_exchange (l := l) C0.2.2.2.2.2.2.1 G.2.2.2 h_r1) (cwV 2 C0.2.2.2.2.1 (lw_V q2104 q2106 qs103 q114 q2107) rfl rfl rfl hdX6_exchange ⟨Nat.le_of_ble_eq_true rfl, Nat.le_of_ble_eq_true rfl⟩) rfl (Nat.le_of_ble_eq_true rfl) dX6_nextOrder_72 ⟨Nat.zero_le _, Nat.zero_le _⟩ (fun H locs G => ?_)
  refine lv_iload_n hx hb dX6_nextOrder_75 rfl (lv_at hl 2 rfl) ?_
  refine lv_iconst (v := 1) hx hb dX6_nextOrder_76 (by decide +kernel) ?_
  refine lv_iadd hx hb dX6_nextOrder_77 ?_
  refine lv_topi (fun x3 e_x3 => ?_)
  have h := letB_e h e_x3
  refine lv_istore (lv' := [(4, .int x3), (0, .ref (ad 0)), (1, .int a1), (2, .int a2), (3, .int a3)]) hx hb dX6_nextOrder_78 hl (by decide) rfl (fun ls hl => ?_)
  refine lv_iload_n hx hb dX6_nextOrder_80 rfl (lv_at hl 2 rfl) ?_
  refine lv_iconst (v := 1) hx hb dX6_nextOrder_81 (by decide +kernel) ?_
  refine lv_isub hx hb dX6_nextOrder_82 ?_
  refine lv_topi (fun x4 e_x4 => ?_)
  have h := letB_e h e_x4
  refine lv_istore (lv' := [(5, .int x4), (4, .int x3), (0, .ref (ad 0)), (1, .int a1), (2, .int a2), (3, .int a3)]) hx hb dX6_nextOrder_83 hl (by decide) rfl (fun ls hl => ?_)
  exact wX6_nextOrder_85 C0 x3 x4 (σ2)  _ h Kr _ _ _ (lv_sub hl [2, 1, 0] rfl) G
set_option maxHeartbeats 400000 in
theorem wbX6_nextOrder_48 (C0 : Cx ad dc D RX6 cX6_nextOrder 6 p s m args meth c) (a1 : Int32) (a2 : Int32) (a3 : Int32) (σ : St)  (o : (Int32) ⊕ (Int32)) (h : bX6_nextOrder_48 a1 a2 a3 σ = some o) (Kb : ∀ (b3 : Int32), o = .inr b3 → ∀ (H : Heap) (locs : List Loc) (ls : Array Slot), lv_has ls 6 [(0, .ref (ad 0)), (1, .int a1), (2, .int a2), (3, .int b3)] → GW mSh mKs ad dc D A s σ H locs → W p l e RmX6_nextOrder s m args below meth c H locs 0 0 Q (F0 m 48 ls [])) (Ke0 : ∀ (b3 : Int32), o = .inl b3 → ∀ (H : Heap) (locs : List Loc) (ls : Array Slot), lv_has ls 6 [(0, .ref (ad 0)), (1, .int a1), (2, .int a2), (3, .int b3)] → GW mSh mKs ad dc D A s σ H locs → W p l e RmX6_nextOrder s m args below meth c H locs 0 0 Q (F0 m 69 ls [])) (H : Heap) (locs : List Loc) (ls : Array Slot) (hl : lv_has ls 6 [(0, .ref (ad 0)), (1, .int a1), (2, .int a2), (3, .int a3)]) (G : GW mSh mKs ad dc D A s σ H locs) : W p l e RmX6_nextOrder s m args below meth c H locs 0 0 Q (F0 m 48 ls []) := by
  have hx := C0.1
  have hb := C0.2.1
  unfold bX6_nextOrder_48 at h
  refine lv_aload_n hx hb dX6_nextOrder_48 rfl (lv_at hl 0 rfl) ?_
  refine m_getC C0 G 63 (by decide) rfl q1577 dX6_nextOrder_49 ?_
  refine lv_iload_n hx hb dX6_nextOrder_52 rfl (lv_at hl 3 rfl) ?_
  obtain ⟨b_1, h⟩ := ckB_e h
  refine g_iald C0 G (n := 8) (by decide) rfl b_1 dX6_nextOrder_53 ?_
  refine lv_aload_n hx hb dX6_nextOrder_54 rfl (lv_at hl 0 rfl) ?_
  refine m_getC C0 G 63 (by decide) rfl q1577 dX6_nextOrder_55 ?_
  refine lv_iload_n hx hb dX6_nextOrder_58 rfl (lv_at hl 2 rfl) ?_
  obtain ⟨b_2, h⟩ := ckB_e h
  refine g_iald C0 G (n := 8) (by decide) rfl b_2 dX6_nextOrder_59 ?_
  refine lv_icmp_ge (tgt := 69) hx hb dX6_nextOrder_60 (by decide) (fun c3 => ?_) (fun c3 => ?_)
  · have h := ite_t h c3
    cases h
    exact Ke0 a3 rfl _ _ _ hl G
  · have h := ite_f h c3
    obtain ⟨x4, e_x4⟩ : ∃ z : Int32, z = a3 + (-1) := ⟨_, rfl⟩
    have h := letB_e h e_x4
    refine lv_iinc (v := x4) (lv' := [(3, .int x4), (0, .ref (ad 0)), (1, .int a1), (2, .int a2)]) hx hb dX6_nextOrder_63 hl (k := 3) rfl ((congrArg (fun z => a3 + z) (show Int32.ofInt (-1) = (-1) by decide)).trans e_x4.symm) (by decide) rfl (fun ls hl => ?_)
    refine lv_goto (tgt := 48) hx hb dX6_nextOrder_66 (by decide) ?_
    cases h
    exact Kb x4 rfl _ _ _ (lv_sub hl [1, 2, 3, 0] rfl) G
set_option maxHeartbeats 400000 in
theorem lX6_nextOrder_48 (C0 : Cx ad dc D RX6 cX6_nextOrder 6 p s m args meth c) (a1 : Int32) (a2 : Int32) (σ : St)  : ∀ (n : Nat) (a3 : Int32) (ex : Int32) (h : iter (fun v : Int32 => bX6_nextOrder_48 a1 a2 v σ) n a3 = some ex) (Ke0 : ∀ (b3 : Int32), ex = b3 → ∀ (H : Heap) (locs : List Loc) (ls : Array Slot), lv_has ls 6 [(0, .ref (ad 0)), (1, .int a1), (2, .int a2), (3, .int b3)] → GW mSh mKs ad dc D A s σ H locs → W p l e RmX6_nextOrder s m args below meth c H locs 0 0 Q (F0 m 69 ls [])) (H : Heap) (locs : List Loc) (ls : Array Slot) (hl : lv_has ls 6 [(0, .ref (ad 0)), (1, .int a1), (2, .int a2), (3, .int a3)]) (G : GW mSh mKs ad dc D A s σ H locs), W p l e RmX6_nextOrder s m args below meth c H locs 0 0 Q (F0 m 48 ls []) := by
  intro n
  induction n with
  | zero =>
    intro a3 ex h
    cases h
  | succ n ih =>
    intro a3 ex h Ke0 H locs ls hl G
    obtain ⟨r, hb1, hr⟩ := iter_e h
    refine wbX6_nextOrder_48 C0 a1 a2 a3 σ  r hb1 ?_ ?_ H locs ls hl G
    · intro b3 hv H locs ls hl G
      subst hv
      rcases hr with hr | ⟨a', hr, h2⟩
      · cases hr
      · rw [← Sum.inr.inj hr] at h2
        exact ih b3 ex h2 Ke0 H locs ls hl G
    · intro b3 hv H locs ls hl G
      subst hv
      rcases hr with hr | ⟨a', hr, h2⟩
      · exact Ke0 b3 (Sum.inl.inj hr).symm H locs ls hl G
      · cases hr
set_option maxHeartbeats 400000 in
theorem wX6_nextOrder_48 (C0 : Cx ad dc D RX6 cX6_nextOrder 6 p s m args meth c) (a1 : Int32) (a2 : Int32) (a3 : Int32) (σ : St)  (o : Int32 × St) (h : fX6_nextOrder_48 a1 a2 a3 σ = some o) (Kr : KrZ p l e RmX6_nextOrder s m args below meth c cX6_nextOrder Q (GW mSh mKs ad dc D A s (o.2)) o.1) (H : Heap) (locs : List Loc) (ls : Array Slot) (hl : lv_has ls 6 [(0, .ref (ad 0)), (1, .int a1), (2, .int a2), (3, .int a3)]) (G : GW mSh mKs ad dc D A s σ H locs) : W p l e RmX6_nextOrder s m args below meth c H locs 0 0 Q (F0 m 48 ls []) := by
  have hx := C0.1
  have hb := C0.2.1
  unfold fX6_nextOrder_48 at h
  obtain ⟨ex, h1, h⟩ := bn1_e h
  refine lX6_nextOrder_48 C0 a1 a2 σ  FU a3 ex h1 ?_ H locs ls hl G
  · intro b3 hv H locs ls hl G
    rw [hv] at h
    have h : (fX6_nextOrder_69 a1 a2 b3 (σ)) = some o := h
    exact wX6_nextOrder_69 C0 a1 a2 b3 (σ)  _ h Kr _ _ _ hl G
set_option maxHeartbeats 400000 in
theorem wX6_nextOrder_38 (C0 : Cx ad dc D RX6 cX6_nextOrder 6 p s m args meth c) (a1 : Int32) (a2 : Int32) (σ : St)  (o : Int32 × St) (h : fX6_nextOrder_38 a1 a2 σ = some o) (Kr : KrZ p l e RmX6_nextOrder s m args below meth c cX6_nextOrder Q (GW mSh mKs ad dc D A s (o.2)) o.1) (H : Heap) (locs : List Loc) (ls : Array Slot) (hl : lv_has ls 6 [(0, .ref (ad 0)), (1, .int a1), (2, .int a2)]) (G : GW mSh mKs ad dc D A s σ H locs) : W p l e RmX6_nextOrder s m args below meth c H locs 0 0 Q (F0 m 38 ls []) := by
  have hx := C0.1
  have hb := C0.2.1
  unfold fX6_nextOrder_38 at h
  refine lv_iload_n hx hb dX6_nextOrder_38 rfl (lv_at hl 2 rfl) ?_
  refine lv_if_ge (tgt := 44) hx hb dX6_nextOrder_39 (by decide) (fun c1 => ?_) (fun c1 => ?_)
  · have h := ite_t h c1
    refine lv_iload_n hx hb dX6_nextOrder_44 rfl (lv_at hl 1 rfl) ?_
    refine lv_iconst (v := 1) hx hb dX6_nextOrder_45 (by decide +kernel) ?_
    refine lv_isub hx hb dX6_nextOrder_46 ?_
    refine lv_topi (fun x2 e_x2 => ?_)
    have h := letB_e h e_x2
    refine lv_istore_n (lv' := [(3, .int x2), (0, .ref (ad 0)), (1, .int a1), (2, .int a2)]) hx hb dX6_nextOrder_47 rfl hl (by decide) rfl (fun ls hl => ?_)
    exact wX6_nextOrder_48 C0 a1 a2 x2 (σ)  _ h Kr _ _ _ (lv_sub hl [1, 2, 3, 0] rfl) G
  · have h := ite_f h c1
    refine lv_iconst (v := 0) hx hb dX6_nextOrder_42 (by decide +kernel) ?_
    cases h
    exact Kr _ _ _ _ dX6_nextOrder_43 (zz_nar (y := 0) (by decide)).1 G
set_option maxHeartbeats 400000 in
theorem wbX6_nextOrder_11 (C0 : Cx ad dc D RX6 cX6_nextOrder 6 p s m args meth c) (a1 : Int32) (a2 : Int32) (σ : St)  (o : (Int32) ⊕ (Int32)) (h : bX6_nextOrder_11 a1 a2 σ = some o) (Kb : ∀ (b2 : Int32), o = .inr b2 → ∀ (H : Heap) (locs : List Loc) (ls : Array Slot), lv_has ls 6 [(0, .ref (ad 0)), (1, .int a1), (2, .int b2)] → GW mSh mKs ad dc D A s σ H locs → W p l e RmX6_nextOrder s m args below meth c H locs 0 0 Q (F0 m 11 ls [])) (Ke0 : ∀ (b2 : Int32), o = .inl b2 → ∀ (H : Heap) (locs : List Loc) (ls : Array Slot), lv_has ls 6 [(0, .ref (ad 0)), (1, .int a1), (2, .int b2)] → GW mSh mKs ad dc D A s σ H locs → W p l e RmX6_nextOrder s m args below meth c H locs 0 0 Q (F0 m 38 ls [])) (H : Heap) (locs : List Loc) (ls : Array Slot) (hl : lv_has ls 6 [(0, .ref (ad 0)), (1, .int a1), (2, .int a2)]) (G : GW mSh mKs ad dc D A s σ H locs) : W p l e RmX6_nextOrder s m args below meth c H locs 0 0 Q (F0 m 11 ls []) := by
  have hx := C0.1
  have hb := C0.2.1
  unfold bX6_nextOrder_11 at h
  refine lv_iload_n hx hb dX6_nextOrder_11 rfl (lv_at hl 2 rfl) ?_
  refine lv_if_lt (tgt := 38) hx hb dX6_nextOrder_12 (by decide) (fun c1 => ?_) (fun c1 => ?_)
  · have h := ite_t h c1
    cases h
    exact Ke0 a2 rfl _ _ _ hl G
  · have h := ite_f h c1
    refine lv_aload_n hx hb dX6_nextOrder_15 rfl (lv_at hl 0 rfl) ?_
    refine m_getC C0 G 63 (by decide) rfl q1577 dX6_nextOrder_16 ?_
    refine lv_iload_n hx hb dX6_nextOrder_19 rfl (lv_at hl 2 rfl) ?_
    obtain ⟨b_2, h⟩ := ckB_e h
    refine g_iald C0 G (n := 8) (by decide) rfl b_2 dX6_nextOrder_20 ?_
    refine lv_aload_n hx hb dX6_nextOrder_21 rfl (lv_at hl 0 rfl) ?_
    refine m_getC C0 G 63 (by decide) rfl q1577 dX6_nextOrder_22 ?_
    refine lv_iload_n hx hb dX6_nextOrder_25 rfl (lv_at hl 2 rfl) ?_
    refine lv_iconst (v := 1) hx hb dX6_nextOrder_26 (by decide +kernel) ?_
    refine lv_iadd hx hb dX6_nextOrder_27 ?_
    obtain ⟨b_3, h⟩ := ckB_e h
    refine g_iald C0 G (n := 8) (by decide) rfl b_3 dX6_nextOrder_28 ?_
    refine lv_icmp_le (tgt := 38) hx hb dX6_nextOrder_29 (by decide) (fun c4 => ?_) (fun c4 => ?_)
    · have h := ite_t h c4
      cases h
      exact Ke0 a2 rfl _ _ _ hl G
    · have h := ite_f h c4
      obtain ⟨x5, e_x5⟩ : ∃ z : Int32, z = a2 + (-1) := ⟨_, rfl⟩
      have h := letB_e h e_x5
      refine lv_iinc (v := x5) (lv' := [(2, .int x5), (0, .ref (ad 0)), (1, .int a1)]) hx hb dX6_nextOrder_32 hl (k := 2) rfl ((congrArg (fun z => a2 + z) (show Int32.ofInt (-1) = (-1) by decide)).trans e_x5.symm) (by decide) rfl (fun ls hl => ?_)
      refine lv_goto (tgt := 11) hx hb dX6_nextOrder_35 (by decide) ?_
      cases h
      exact Kb x5 rfl _ _ _ (lv_sub hl [1, 2, 0] rfl) G
set_option maxHeartbeats 400000 in
theorem lX6_nextOrder_11 (C0 : Cx ad dc D RX6 cX6_nextOrder 6 p s m args meth c) (a1 : Int32) (σ : St)  : ∀ (n : Nat) (a2 : Int32) (ex : Int32) (h : iter (fun v : Int32 => bX6_nextOrder_11 a1 v σ) n a2 = some ex) (Ke0 : ∀ (b2 : Int32), ex = b2 → ∀ (H : Heap) (locs : List Loc) (ls : Array Slot), lv_has ls 6 [(0, .ref (ad 0)), (1, .int a1), (2, .int b2)] → GW mSh mKs ad dc D A s σ H locs → W p l e RmX6_nextOrder s m args below meth c H locs 0 0 Q (F0 m 38 ls [])) (H : Heap) (locs : List Loc) (ls : Array Slot) (hl : lv_has ls 6 [(0, .ref (ad 0)), (1, .int a1), (2, .int a2)]) (G : GW mSh mKs ad dc D A s σ H locs), W p l e RmX6_nextOrder s m args below meth c H locs 0 0 Q (F0 m 11 ls []) := by
  intro n
  induction n with
  | zero =>
    intro a2 ex h
    cases h
  | succ n ih =>
    intro a2 ex h Ke0 H locs ls hl G
    obtain ⟨r, hb1, hr⟩ := iter_e h
    refine wbX6_nextOrder_11 C0 a1 a2 σ  r hb1 ?_ ?_ H locs ls hl G
    · intro b2 hv H locs ls hl G
      subst hv
      rcases hr with hr | ⟨a', hr, h2⟩
      · cases hr
      · rw [← Sum.inr.inj hr] at h2
        exact ih b2 ex h2 Ke0 H locs ls hl G
    · intro b2 hv H locs ls hl G
      subst hv
      rcases hr with hr | ⟨a', hr, h2⟩
      · exact Ke0 b2 (Sum.inl.inj hr).symm H locs ls hl G
      · cases hr
set_option maxHeartbeats 400000 in
theorem wX6_nextOrder_11 (C0 : Cx ad dc D RX6 cX6_nextOrder 6 p s m args meth c) (a1 : Int32) (a2 : Int32) (σ : St)  (o : Int32 × St) (h : fX6_nextOrder_11 a1 a2 σ = some o) (Kr : KrZ p l e RmX6_nextOrder s m args below meth c cX6_nextOrder Q (GW mSh mKs ad dc D A s (o.2)) o.1) (H : Heap) (locs : List Loc) (ls : Array Slot) (hl : lv_has ls 6 [(0, .ref (ad 0)), (1, .int a1), (2, .int a2)]) (G : GW mSh mKs ad dc D A s σ H locs) : W p l e RmX6_nextOrder s m args below meth c H locs 0 0 Q (F0 m 11 ls []) := by
  have hx := C0.1
  have hb := C0.2.1
  unfold fX6_nextOrder_11 at h
  obtain ⟨ex, h1, h⟩ := bn1_e h
  refine lX6_nextOrder_11 C0 a1 σ  FU a2 ex h1 ?_ H locs ls hl G
  · intro b2 hv H locs ls hl G
    rw [hv] at h
    have h : (fX6_nextOrder_38 a1 b2 (σ)) = some o := h
    exact wX6_nextOrder_38 C0 a1 b2 (σ)  _ h Kr _ _ _ hl G
set_option maxHeartbeats 400000 in
theorem wX6_nextOrder_0 (C0 : Cx ad dc D RX6 cX6_nextOrder 6 p s m args meth c) (σ : St)  (o : Int32 × St) (h : fX6_nextOrder σ = some o) (Kr : KrZ p l e RmX6_nextOrder s m args below meth c cX6_nextOrder Q (GW mSh mKs ad dc D A s (o.2)) o.1) (H : Heap) (locs : List Loc) (ls : Array Slot) (hl : lv_has ls 6 [(0, .ref (ad 0))]) (G : GW mSh mKs ad dc D A s σ H locs) : W p l e RmX6_nextOrder s m args below meth c H locs 0 0 Q (F0 m 0 ls []) := by
  have hx := C0.1
  have hb := C0.2.1
  unfold fX6_nextOrder at h
  refine lv_aload_n hx hb dX6_nextOrder_0 rfl (lv_at hl 0 rfl) ?_
  refine m_getC C0 G 3 (by decide) rfl q1517 dX6_nextOrder_1 ?_
  refine lv_iconst (v := 2) hx hb dX6_nextOrder_4 (by decide +kernel) ?_
  obtain ⟨b_1, h⟩ := ckB_e h
  refine g_iald C0 G (n := 8060) (by decide) rfl b_1 dX6_nextOrder_5 ?_
  refine lv_topi (fun x2 e_x2 => ?_)
  have h := letB_e h e_x2
  refine lv_istore_n (lv' := [(1, .int x2), (0, .ref (ad 0))]) hx hb dX6_nextOrder_6 rfl hl (by decide) rfl (fun ls hl => ?_)
  refine lv_iload_n hx hb dX6_nextOrder_7 rfl (lv_at hl 0 rfl) ?_
  refine lv_iconst (v := 2) hx hb dX6_nextOrder_8 (by decide +kernel) ?_
  refine lv_isub hx hb dX6_nextOrder_9 ?_
  refine lv_topi (fun x3 e_x3 => ?_)
  have h := letB_e h e_x3
  refine lv_istore_n (lv' := [(2, .int x3), (1, .int x2), (0, .ref (ad 0))]) hx hb dX6_nextOrder_10 rfl hl (by decide) rfl (fun ls hl => ?_)
  exact wX6_nextOrder_11 C0 x2 x3 (σ)  _ h Kr _ _ _ (lv_sub hl [2, 1, 0] rfl) G
theorem kX6_nextOrder {l : Launch} {ad : Nat → Nat} {dc : Nat → ClassId} {D : va_G} {A : Nat → Prop}  (hi : ∀ i j, ad i = ad j → i = j) (hA : ∀ k, k ∈ mKs → A (ad k)) {σ : St}  {r : Int32} {σ' : St}  (h : fX6_nextOrder σ = some (r, σ')) : Met l yX6_nextOrder (ws_ yX6_nextOrder cX6_nextOrder 6 (some .boolean)) RmX6_nextOrder (gPc mSh mKs ad dc D σ [.ref (ad 0)]) (gQi mSh mKs ad dc D A σ' r) 0 0 A :=
  g_metZ (by decide) rfl hi mKs_nd hA (Nat.le_of_ble_eq_true rfl) (fun p e s m below meth c Q C0 Kr ls hl G => wX6_nextOrder_0 C0  σ  (r, σ') h Kr _ _ ls hl G)
-- X6_soonest
abbrev RmX6_soonest : Room := { frames := 2, cells := 0, slots := 0, locals := 48 }
theorem hdX6_soonest : yX6_soonest.cls = RX6 ∧ yX6_soonest.cls ≠ "java/lang/invoke/MethodHandle" ∧ yX6_soonest.cls ≠ "java/lang/invoke/VarHandle" ∧ (parseMethodDescriptor yX6_soonest.desc).map (fun d => d.parameters.length) = some 2 := by decide +kernel
set_option maxHeartbeats 400000 in
theorem wbX6_soonest_109 (C0 : Cx ad dc D RX6 cX6_soonest 7 p s m args meth c) (a1 : Int32) (a2 : Int32) (a3 : Int32) (a6 : Int32) (σ : St)  (o : (St) ⊕ (Int32 × St)) (h : bX6_soonest_109 a1 a2 a3 a6 σ = some o) (Kb : ∀ (b6 : Int32) (σ' : St), o = .inr (b6, σ') → ∀ (H : Heap) (locs : List Loc) (ls : Array Slot), lv_has ls 7 [(0, .ref (ad 0)), (1, .int a1), (2, .int a2), (3, .int a3), (6, .int b6)] → GW mSh mKs ad dc D A s σ' H locs → W p l e RmX6_soonest s m args below meth c H locs 0 0 Q (F0 m 109 ls [])) (Ke0 : ∀  (σ' : St), o = .inl (σ') → ∀ (H : Heap) (locs : List Loc) (ls : Array Slot), lv_has ls 7 [(0, .ref (ad 0)), (1, .int a1), (2, .int a2), (3, .int a3)] → GW mSh mKs ad dc D A s σ' H locs → W p l e RmX6_soonest s m args below meth c H locs 0 0 Q (F0 m 136 ls [])) (H : Heap) (locs : List Loc) (ls : Array Slot) (hl : lv_has ls 7 [(0, .ref (ad 0)), (1, .int a1), (2, .int a2), (3, .int a3), (6, .int a6)]) (G : GW mSh mKs ad dc D A s σ H locs) : W p l e RmX6_soonest s m args below meth c H locs 0 0 Q (F0 m 109 ls []) := by
  have hx := C0.1
  have hb := C0.2.1
  unfold bX6_soonest_109 at h
  refine lv_iload hx hb dX6_soonest_109 (lv_at hl 4 rfl) ?_
  refine lv_bipush (v := 8) hx hb dX6_soonest_111 (by decide +kernel) ?_
  refine lv_icmp_ge (tgt := 136) hx hb dX6_soonest_113 (by decide) (fun c1 => ?_) (fun c1 => ?_)
  · have h := ite_t h c1
    cases h
    exact Ke0 (σ) rfl _ _ _ (lv_sub hl [0, 1, 2, 3] rfl) G
  · have h := ite_f h c1
    refine lv_aload_n hx hb dX6_soonest_116 rfl (lv_at hl 0 rfl) ?_
    refine m_getC C0 G 66 (by decide) rfl q1580 dX6_soonest_117 ?_
    refine lv_iload hx hb dX6_soonest_120 (lv_at hl 4 rfl) ?_
    refine lv_aload_n hx hb dX6_soonest_122 rfl (lv_at hl 0 rfl) ?_
    refine m_getC C0 G 64 (by decide) rfl q1578 dX6_soonest_123 ?_
    refine lv_iload hx hb dX6_soonest_126 (lv_at hl 4 rfl) ?_
    obtain ⟨b_2, h⟩ := ckB_e h
    refine g_iald C0 G (n := 8) (by decide) rfl b_2 dX6_soonest_128 ?_
    obtain ⟨b_3, h⟩ := ckB_e h
    refine g_iast C0 G (n := 8) (by decide) rfl b_3 dX6_soonest_129 (fun σ4 H locs e_σ4 G => ?_)
    have h := letB_e h e_σ4
    obtain ⟨x5, e_x5⟩ : ∃ z : Int32, z = a6 + 1 := ⟨_, rfl⟩
    have h := letB_e h e_x5
    refine lv_iinc (v := x5) (lv' := [(6, .int x5), (0, .ref (ad 0)), (1, .int a1), (2, .int a2), (3, .int a3)]) hx hb dX6_soonest_130 hl (k := 4) rfl ((congrArg (fun z => a6 + z) (show Int32.ofInt 1 = 1 by decide)).trans e_x5.symm) (by decide) rfl (fun ls hl => ?_)
    refine lv_goto (tgt := 109) hx hb dX6_soonest_133 (by decide) ?_
    cases h
    exact Kb x5 (σ4) rfl _ _ _ (lv_sub hl [1, 2, 3, 4, 0] rfl) G
set_option maxHeartbeats 400000 in
theorem lX6_soonest_109 (C0 : Cx ad dc D RX6 cX6_soonest 7 p s m args meth c) (a1 : Int32) (a2 : Int32) (a3 : Int32)   : ∀ (n : Nat) (a6 : Int32) (σ : St) (ex : St) (h : iter (fun v : Int32 × St => bX6_soonest_109 a1 a2 a3 v.1 v.2) n (a6, σ) = some ex) (Ke0 : ∀  (σ' : St), ex = σ' → ∀ (H : Heap) (locs : List Loc) (ls : Array Slot), lv_has ls 7 [(0, .ref (ad 0)), (1, .int a1), (2, .int a2), (3, .int a3)] → GW mSh mKs ad dc D A s σ' H locs → W p l e RmX6_soonest s m args below meth c H locs 0 0 Q (F0 m 136 ls [])) (H : Heap) (locs : List Loc) (ls : Array Slot) (hl : lv_has ls 7 [(0, .ref (ad 0)), (1, .int a1), (2, .int a2), (3, .int a3), (6, .int a6)]) (G : GW mSh mKs ad dc D A s σ H locs), W p l e RmX6_soonest s m args below meth c H locs 0 0 Q (F0 m 109 ls []) := by
  intro n
  induction n with
  | zero =>
    intro a6 σ ex h
    cases h
  | succ n ih =>
    intro a6 σ ex h Ke0 H locs ls hl G
    obtain ⟨r, hb1, hr⟩ := iter_e h
    refine wbX6_soonest_109 C0 a1 a2 a3 a6 σ  r hb1 ?_ ?_ H locs ls hl G
    · intro b6 σ' hv H locs ls hl G
      subst hv
      rcases hr with hr | ⟨a', hr, h2⟩
      · cases hr
      · rw [← Sum.inr.inj hr] at h2
        exact ih b6 σ' ex h2 Ke0 H locs ls hl G
    · intro σ' hv H locs ls hl G
      subst hv
      rcases hr with hr | ⟨a', hr, h2⟩
      · exact Ke0 σ' (Sum.inl.inj hr).symm H locs ls hl G
      · cases hr
set_option maxHeartbeats 400000 in
theorem wX6_soonest_109 (C0 : Cx ad dc D RX6 cX6_soonest 7 p s m args meth c) (a1 : Int32) (a2 : Int32) (a3 : Int32) (a6 : Int32) (σ : St)  (o : (Int32 × St) ⊕ (Int32 × Int32 × St)) (h : fX6_soonest_109 a1 a2 a3 a6 σ = some o) (Kb : ∀ (b3 : Int32) (b4 : Int32) (σ' : St), o = .inr (b3, b4, σ') → ∀ (H : Heap) (locs : List Loc) (ls : Array Slot), lv_has ls 7 [(0, .ref (ad 0)), (1, .int a1), (2, .int a2), (3, .int b3), (4, .int b4)] → GW mSh mKs ad dc D A s σ' H locs → W p l e RmX6_soonest s m args below meth c H locs 0 0 Q (F0 m 74 ls [])) (Ke0 : ∀ (b3 : Int32) (σ' : St), o = .inl (b3, σ') → ∀ (H : Heap) (locs : List Loc) (ls : Array Slot), lv_has ls 7 [(0, .ref (ad 0)), (2, .int a2), (3, .int b3)] → GW mSh mKs ad dc D A s σ' H locs → W p l e RmX6_soonest s m args below meth c H locs 0 0 Q (F0 m 145 ls [])) (H : Heap) (locs : List Loc) (ls : Array Slot) (hl : lv_has ls 7 [(0, .ref (ad 0)), (1, .int a1), (2, .int a2), (3, .int a3), (6, .int a6)]) (G : GW mSh mKs ad dc D A s σ H locs) : W p l e RmX6_soonest s m args below meth c H locs 0 0 Q (F0 m 109 ls []) := by
  have hx := C0.1
  have hb := C0.2.1
  unfold fX6_soonest_109 at h
  obtain ⟨ex, h1, h⟩ := bn1_e h
  refine lX6_soonest_109 C0 a1 a2 a3   FU a6 σ ex h1 ?_ H locs ls hl G
  · intro σ' hv H locs ls hl G
    rw [hv] at h
    have h : (bn2 (fX6_nextOrder (σ')) (fun r1 σ2 => some (.inr (a3, r1, σ2)))) = some o := h
    refine lv_aload_n hx hb dX6_soonest_136 rfl (lv_at hl 0 rfl) ?_
    obtain ⟨r1, σ2, h_r1, h⟩ := bn2_e h
    refine g_callVi (rest := []) C0 G hl (ci := 6) rfl (by decide) rfl (kX6_nextOrder (l := l) C0.2.2.2.2.2.2.1 G.2.2.2 h_r1) (cwV 0 C0.2.2.2.2.1 (lw_V q2100 q2102 qs102 q114 q2103) rfl rfl rfl hdX6_nextOrder ⟨Nat.le_of_ble_eq_true rfl, Nat.le_of_ble_eq_true rfl⟩) rfl (Nat.le_of_ble_eq_true rfl) dX6_soonest_137 ⟨Nat.zero_le _, Nat.zero_le _⟩ (fun H locs G => ?_)
    refine lv_istore (lv' := [(4, .int r1), (0, .ref (ad 0)), (1, .int a1), (2, .int a2), (3, .int a3)]) hx hb dX6_soonest_140 hl (by decide) rfl (fun ls hl => ?_)
    refine lv_goto (tgt := 74) hx hb dX6_soonest_142 (by decide) ?_
    cases h
    exact Kb a3 r1 (σ2) rfl _ _ _ (lv_sub hl [1, 2, 3, 4, 0] rfl) G
set_option maxHeartbeats 400000 in
theorem wX6_soonest_145 (C0 : Cx ad dc D RX6 cX6_soonest 7 p s m args meth c) (a2 : Int32) (a3 : Int32) (σ : St)  (o : Int32 × St) (h : fX6_soonest_145 a2 a3 σ = some o) (Kr : KrI p l e RmX6_soonest s m args below meth c cX6_soonest Q (GW mSh mKs ad dc D A s (o.2)) o.1) (H : Heap) (locs : List Loc) (ls : Array Slot) (hl : lv_has ls 7 [(0, .ref (ad 0)), (2, .int a2), (3, .int a3)]) (G : GW mSh mKs ad dc D A s σ H locs) : W p l e RmX6_soonest s m args below meth c H locs 0 0 Q (F0 m 145 ls []) := by
  have hx := C0.1
  have hb := C0.2.1
  unfold fX6_soonest_145 at h
  refine lv_iload_n hx hb dX6_soonest_145 rfl (lv_at hl 1 rfl) ?_
  refine lv_iconst (v := (-1)) hx hb dX6_soonest_146 (by decide +kernel) ?_
  refine lv_icmp_ne (tgt := 154) hx hb dX6_soonest_147 (by decide) (fun c1 => ?_) (fun c1 => ?_)
  · have h := ite_f h c1
    refine lv_aload_n hx hb dX6_soonest_154 rfl (lv_at hl 0 rfl) ?_
    refine m_getC C0 G 66 (by decide) rfl q1580 dX6_soonest_155 ?_
    refine lv_iload_n hx hb dX6_soonest_158 rfl (lv_at hl 1 rfl) ?_
    obtain ⟨b_2, h⟩ := ckB_e h
    refine g_iald C0 G (n := 8) (by decide) rfl b_2 dX6_soonest_159 ?_
    cases h
    exact Kr _ _ _ _ dX6_soonest_160 G
  · have h := ite_t h c1
    refine lv_iload_n hx hb dX6_soonest_150 rfl (lv_at hl 2 rfl) ?_
    refine lv_goto (tgt := 160) hx hb dX6_soonest_151 (by decide) ?_
    cases h
    exact Kr _ _ _ _ dX6_soonest_160 G
set_option maxHeartbeats 400000 in
theorem wbX6_soonest_74 (C0 : Cx ad dc D RX6 cX6_soonest 7 p s m args meth c) (a1 : Int32) (a2 : Int32) (a3 : Int32) (a4 : Int32) (σ : St)  (o : (Int32 × St) ⊕ (Int32 × Int32 × St)) (h : bX6_soonest_74 a1 a2 a3 a4 σ = some o) (Kb : ∀ (b3 : Int32) (b4 : Int32) (σ' : St), o = .inr (b3, b4, σ') → ∀ (H : Heap) (locs : List Loc) (ls : Array Slot), lv_has ls 7 [(0, .ref (ad 0)), (1, .int a1), (2, .int a2), (3, .int b3), (4, .int b4)] → GW mSh mKs ad dc D A s σ' H locs → W p l e RmX6_soonest s m args below meth c H locs 0 0 Q (F0 m 74 ls [])) (Ke0 : ∀ (b3 : Int32) (σ' : St), o = .inl (b3, σ') → ∀ (H : Heap) (locs : List Loc) (ls : Array Slot), lv_has ls 7 [(0, .ref (ad 0)), (2, .int a2), (3, .int b3)] → GW mSh mKs ad dc D A s σ' H locs → W p l e RmX6_soonest s m args below meth c H locs 0 0 Q (F0 m 145 ls [])) (H : Heap) (locs : List Loc) (ls : Array Slot) (hl : lv_has ls 7 [(0, .ref (ad 0)), (1, .int a1), (2, .int a2), (3, .int a3), (4, .int a4)]) (G : GW mSh mKs ad dc D A s σ H locs) : W p l e RmX6_soonest s m args below meth c H locs 0 0 Q (F0 m 74 ls []) := by
  have hx := C0.1
  have hb := C0.2.1
  unfold bX6_soonest_74 at h
  refine lv_iload hx hb dX6_soonest_74 (lv_at hl 4 rfl) ?_
  refine lv_if_eq (tgt := 145) hx hb dX6_soonest_76 (by decide) (fun c1 => ?_) (fun c1 => ?_)
  · have h := ite_t h c1
    cases h
    exact Ke0 a3 (σ) rfl _ _ _ (lv_sub hl [0, 2, 3] rfl) G
  · have h := ite_f h c1
    refine lv_aload_n hx hb dX6_soonest_79 rfl (lv_at hl 0 rfl) ?_
    refine lv_iload_n hx hb dX6_soonest_80 rfl (lv_at hl 1 rfl) ?_
    obtain ⟨r2, σ3, h_r2, h⟩ := bn2_e h
    refine g_callVi (rest := []) C0 G hl (ci := 6) rfl (by decide) rfl (kX6_doneBy (l := l) C0.2.2.2.2.2.2.1 G.2.2.2 h_r2) (cwV 1 C0.2.2.2.2.1 (lw_V q2096 q2098 qs101 q114 q2099) rfl rfl rfl hdX6_doneBy ⟨Nat.le_of_ble_eq_true rfl, Nat.le_of_ble_eq_true rfl⟩) rfl (Nat.le_of_ble_eq_true rfl) dX6_soonest_81 ⟨Nat.zero_le _, Nat.zero_le _⟩ (fun H locs G => ?_)
    refine lv_istore (lv' := [(5, .int r2), (0, .ref (ad 0)), (1, .int a1), (2, .int a2), (3, .int a3), (4, .int a4)]) hx hb dX6_soonest_84 hl (by decide) rfl (fun ls hl => ?_)
    refine lv_iload hx hb dX6_soonest_86 (lv_at hl 0 rfl) ?_
    refine lv_iconst (v := (-1)) hx hb dX6_soonest_88 (by decide +kernel) ?_
    refine lv_icmp_eq (tgt := 136) hx hb dX6_soonest_89 (by decide) (fun c4 => ?_) (fun c4 => ?_)
    · have h := ite_t h c4
      refine lv_aload_n hx hb dX6_soonest_136 rfl (lv_at hl 1 rfl) ?_
      obtain ⟨r5, σ6, h_r5, h⟩ := bn2_e h
      refine g_callVi (rest := []) C0 G hl (ci := 6) rfl (by decide) rfl (kX6_nextOrder (l := l) C0.2.2.2.2.2.2.1 G.2.2.2 h_r5) (cwV 0 C0.2.2.2.2.1 (lw_V q2100 q2102 qs102 q114 q2103) rfl rfl rfl hdX6_nextOrder ⟨Nat.le_of_ble_eq_true rfl, Nat.le_of_ble_eq_true rfl⟩) rfl (Nat.le_of_ble_eq_true rfl) dX6_soonest_137 ⟨Nat.zero_le _, Nat.zero_le _⟩ (fun H locs G => ?_)
      refine lv_istore (lv' := [(4, .int r5), (5, .int r2), (0, .ref (ad 0)), (1, .int a1), (2, .int a2), (3, .int a3)]) hx hb dX6_soonest_140 hl (by decide) rfl (fun ls hl => ?_)
      refine lv_goto (tgt := 74) hx hb dX6_soonest_142 (by decide) ?_
      cases h
      exact Kb a3 r5 (σ6) rfl _ _ _ (lv_sub hl [2, 3, 4, 5, 0] rfl) G
    · have h := ite_f h c4
      refine lv_iload_n hx hb dX6_soonest_92 rfl (lv_at hl 4 rfl) ?_
      refine lv_iconst (v := (-1)) hx hb dX6_soonest_93 (by decide +kernel) ?_
      refine lv_icmp_eq (tgt := 103) hx hb dX6_soonest_94 (by decide) (fun c7 => ?_) (fun c7 => ?_)
      · have h := ite_t h c7
        refine lv_iload hx hb dX6_soonest_103 (lv_at hl 0 rfl) ?_
        refine lv_istore_n (lv' := [(3, .int r2), (5, .int r2), (0, .ref (ad 0)), (1, .int a1), (2, .int a2), (4, .int a4)]) hx hb dX6_soonest_105 rfl hl (by decide) rfl (fun ls hl => ?_)
        refine lv_iconst (v := 0) hx hb dX6_soonest_106 (by decide +kernel) ?_
        refine lv_istore (lv' := [(6, .int 0), (3, .int r2), (5, .int r2), (0, .ref (ad 0)), (1, .int a1), (2, .int a2), (4, .int a4)]) hx hb dX6_soonest_107 hl (by decide) rfl (fun ls hl => ?_)
        exact wX6_soonest_109 C0 a1 a2 r2 0 (σ3)  _ h Kb Ke0 _ _ _ (lv_sub hl [3, 4, 5, 1, 0] rfl) G
      · have h := ite_f h c7
        refine lv_iload hx hb dX6_soonest_97 (lv_at hl 0 rfl) ?_
        refine lv_iload_n hx hb dX6_soonest_99 rfl (lv_at hl 4 rfl) ?_
        refine lv_icmp_ge (tgt := 136) hx hb dX6_soonest_100 (by decide) (fun c8 => ?_) (fun c8 => ?_)
        · have h := ite_t h c8
          refine lv_aload_n hx hb dX6_soonest_136 rfl (lv_at hl 1 rfl) ?_
          obtain ⟨r9, σ10, h_r9, h⟩ := bn2_e h
          refine g_callVi (rest := []) C0 G hl (ci := 6) rfl (by decide) rfl (kX6_nextOrder (l := l) C0.2.2.2.2.2.2.1 G.2.2.2 h_r9) (cwV 0 C0.2.2.2.2.1 (lw_V q2100 q2102 qs102 q114 q2103) rfl rfl rfl hdX6_nextOrder ⟨Nat.le_of_ble_eq_true rfl, Nat.le_of_ble_eq_true rfl⟩) rfl (Nat.le_of_ble_eq_true rfl) dX6_soonest_137 ⟨Nat.zero_le _, Nat.zero_le _⟩ (fun H locs G => ?_)
          refine lv_istore (lv' := [(4, .int r9), (5, .int r2), (0, .ref (ad 0)), (1, .int a1), (2, .int a2), (3, .int a3)]) hx hb dX6_soonest_140 hl (by decide) rfl (fun ls hl => ?_)
          refine lv_goto (tgt := 74) hx hb dX6_soonest_142 (by decide) ?_
          cases h
          exact Kb a3 r9 (σ10) rfl _ _ _ (lv_sub hl [2, 3, 4, 5, 0] rfl) G
        · have h := ite_f h c8
          refine lv_iload hx hb dX6_soonest_103 (lv_at hl 0 rfl) ?_
          refine lv_istore_n (lv' := [(3, .int r2), (5, .int r2), (0, .ref (ad 0)), (1, .int a1), (2, .int a2), (4, .int a4)]) hx hb dX6_soonest_105 rfl hl (by decide) rfl (fun ls hl => ?_)
          refine lv_iconst (v := 0) hx hb dX6_soonest_106 (by decide +kernel) ?_
          refine lv_istore (lv' := [(6, .int 0), (3, .int r2), (5, .int r2), (0, .ref (ad 0)), (1, .int a1), (2, .int a2), (4, .int a4)]) hx hb dX6_soonest_107 hl (by decide) rfl (fun ls hl => ?_)
          exact wX6_soonest_109 C0 a1 a2 r2 0 (σ3)  _ h Kb Ke0 _ _ _ (lv_sub hl [3, 4, 5, 1, 0] rfl) G
set_option maxHeartbeats 400000 in
theorem lX6_soonest_74 (C0 : Cx ad dc D RX6 cX6_soonest 7 p s m args meth c) (a1 : Int32) (a2 : Int32)   : ∀ (n : Nat) (a3 : Int32) (a4 : Int32) (σ : St) (ex : Int32 × St) (h : iter (fun v : Int32 × Int32 × St => bX6_soonest_74 a1 a2 v.1 v.2.1 v.2.2) n (a3, a4, σ) = some ex) (Ke0 : ∀ (b3 : Int32) (σ' : St), ex = (b3, σ') → ∀ (H : Heap) (locs : List Loc) (ls : Array Slot), lv_has ls 7 [(0, .ref (ad 0)), (2, .int a2), (3, .int b3)] → GW mSh mKs ad dc D A s σ' H locs → W p l e RmX6_soonest s m args below meth c H locs 0 0 Q (F0 m 145 ls [])) (H : Heap) (locs : List Loc) (ls : Array Slot) (hl : lv_has ls 7 [(0, .ref (ad 0)), (1, .int a1), (2, .int a2), (3, .int a3), (4, .int a4)]) (G : GW mSh mKs ad dc D A s σ H locs), W p l e RmX6_soonest s m args below meth c H locs 0 0 Q (F0 m 74 ls []) := by
  intro n
  induction n with
  | zero =>
    intro a3 a4 σ ex h
    cases h
  | succ n ih =>
    intro a3 a4 σ ex h Ke0 H locs ls hl G
    obtain ⟨r, hb1, hr⟩ := iter_e h
    refine wbX6_soonest_74 C0 a1 a2 a3 a4 σ  r hb1 ?_ ?_ H locs ls hl G
    · intro b3 b4 σ' hv H locs ls hl G
      subst hv
      rcases hr with hr | ⟨a', hr, h2⟩
      · cases hr
      · rw [← Sum.inr.inj hr] at h2
        exact ih b3 b4 σ' ex h2 Ke0 H locs ls hl G
    · intro b3 σ' hv H locs ls hl G
      subst hv
      rcases hr with hr | ⟨a', hr, h2⟩
      · exact Ke0 b3 σ' (Sum.inl.inj hr).symm H locs ls hl G
      · cases hr
set_option maxHeartbeats 400000 in
theorem wX6_soonest_74 (C0 : Cx ad dc D RX6 cX6_soonest 7 p s m args meth c) (a1 : Int32) (a2 : Int32) (a3 : Int32) (a4 : Int32) (σ : St)  (o : Int32 × St) (h : fX6_soonest_74 a1 a2 a3 a4 σ = some o) (Kr : KrI p l e RmX6_soonest s m args below meth c cX6_soonest Q (GW mSh mKs ad dc D A s (o.2)) o.1) (H : Heap) (locs : List Loc) (ls : Array Slot) (hl : lv_has ls 7 [(0, .ref (ad 0)), (1, .int a1), (2, .int a2), (3, .int a3), (4, .int a4)]) (G : GW mSh mKs ad dc D A s σ H locs) : W p l e RmX6_soonest s m args below meth c H locs 0 0 Q (F0 m 74 ls []) := by
  have hx := C0.1
  have hb := C0.2.1
  unfold fX6_soonest_74 at h
  obtain ⟨ex, h1, h⟩ := bn1_e h
  refine lX6_soonest_74 C0 a1 a2   FU a3 a4 σ ex h1 ?_ H locs ls hl G
  · intro b3 σ' hv H locs ls hl G
    rw [hv] at h
    have h : (fX6_soonest_145 a2 b3 (σ')) = some o := h
    exact wX6_soonest_145 C0 a2 b3 (σ')  _ h Kr _ _ _ hl G
set_option maxHeartbeats 400000 in
theorem wbX6_soonest_50 (C0 : Cx ad dc D RX6 cX6_soonest 7 p s m args meth c) (a1 : Int32) (a2 : Int32) (a3 : Int32) (σ : St)  (o : (St) ⊕ (Int32 × St)) (h : bX6_soonest_50 a1 a2 a3 σ = some o) (Kb : ∀ (b3 : Int32) (σ' : St), o = .inr (b3, σ') → ∀ (H : Heap) (locs : List Loc) (ls : Array Slot), lv_has ls 7 [(0, .ref (ad 0)), (1, .int a1), (2, .int a2), (3, .int b3)] → GW mSh mKs ad dc D A s σ' H locs → W p l e RmX6_soonest s m args below meth c H locs 0 0 Q (F0 m 50 ls [])) (Ke0 : ∀  (σ' : St), o = .inl (σ') → ∀ (H : Heap) (locs : List Loc) (ls : Array Slot), lv_has ls 7 [(0, .ref (ad 0)), (1, .int a1), (2, .int a2)] → GW mSh mKs ad dc D A s σ' H locs → W p l e RmX6_soonest s m args below meth c H locs 0 0 Q (F0 m 69 ls [])) (H : Heap) (locs : List Loc) (ls : Array Slot) (hl : lv_has ls 7 [(0, .ref (ad 0)), (1, .int a1), (2, .int a2), (3, .int a3)]) (G : GW mSh mKs ad dc D A s σ H locs) : W p l e RmX6_soonest s m args below meth c H locs 0 0 Q (F0 m 50 ls []) := by
  have hx := C0.1
  have hb := C0.2.1
  unfold bX6_soonest_50 at h
  refine lv_iload_n hx hb dX6_soonest_50 rfl (lv_at hl 3 rfl) ?_
  refine lv_bipush (v := 8) hx hb dX6_soonest_51 (by decide +kernel) ?_
  refine lv_icmp_ge (tgt := 69) hx hb dX6_soonest_53 (by decide) (fun c1 => ?_) (fun c1 => ?_)
  · have h := ite_t h c1
    cases h
    exact Ke0 (σ) rfl _ _ _ (lv_sub hl [0, 1, 2] rfl) G
  · have h := ite_f h c1
    refine lv_aload_n hx hb dX6_soonest_56 rfl (lv_at hl 0 rfl) ?_
    refine m_getC C0 G 63 (by decide) rfl q1577 dX6_soonest_57 ?_
    refine lv_iload_n hx hb dX6_soonest_60 rfl (lv_at hl 3 rfl) ?_
    refine lv_iload_n hx hb dX6_soonest_61 rfl (lv_at hl 3 rfl) ?_
    obtain ⟨b_2, h⟩ := ckB_e h
    refine g_iast C0 G (n := 8) (by decide) rfl b_2 dX6_soonest_62 (fun σ3 H locs e_σ3 G => ?_)
    have h := letB_e h e_σ3
    obtain ⟨x4, e_x4⟩ : ∃ z : Int32, z = a3 + 1 := ⟨_, rfl⟩
    have h := letB_e h e_x4
    refine lv_iinc (v := x4) (lv' := [(3, .int x4), (0, .ref (ad 0)), (1, .int a1), (2, .int a2)]) hx hb dX6_soonest_63 hl (k := 3) rfl ((congrArg (fun z => a3 + z) (show Int32.ofInt 1 = 1 by decide)).trans e_x4.symm) (by decide) rfl (fun ls hl => ?_)
    refine lv_goto (tgt := 50) hx hb dX6_soonest_66 (by decide) ?_
    cases h
    exact Kb x4 (σ3) rfl _ _ _ (lv_sub hl [1, 2, 3, 0] rfl) G
set_option maxHeartbeats 400000 in
theorem lX6_soonest_50 (C0 : Cx ad dc D RX6 cX6_soonest 7 p s m args meth c) (a1 : Int32) (a2 : Int32)   : ∀ (n : Nat) (a3 : Int32) (σ : St) (ex : St) (h : iter (fun v : Int32 × St => bX6_soonest_50 a1 a2 v.1 v.2) n (a3, σ) = some ex) (Ke0 : ∀  (σ' : St), ex = σ' → ∀ (H : Heap) (locs : List Loc) (ls : Array Slot), lv_has ls 7 [(0, .ref (ad 0)), (1, .int a1), (2, .int a2)] → GW mSh mKs ad dc D A s σ' H locs → W p l e RmX6_soonest s m args below meth c H locs 0 0 Q (F0 m 69 ls [])) (H : Heap) (locs : List Loc) (ls : Array Slot) (hl : lv_has ls 7 [(0, .ref (ad 0)), (1, .int a1), (2, .int a2), (3, .int a3)]) (G : GW mSh mKs ad dc D A s σ H locs), W p l e RmX6_soonest s m args below meth c H locs 0 0 Q (F0 m 50 ls []) := by
  intro n
  induction n with
  | zero =>
    intro a3 σ ex h
    cases h
  | succ n ih =>
    intro a3 σ ex h Ke0 H locs ls hl G
    obtain ⟨r, hb1, hr⟩ := iter_e h
    refine wbX6_soonest_50 C0 a1 a2 a3 σ  r hb1 ?_ ?_ H locs ls hl G
    · intro b3 σ' hv H locs ls hl G
      subst hv
      rcases hr with hr | ⟨a', hr, h2⟩
      · cases hr
      · rw [← Sum.inr.inj hr] at h2
        exact ih b3 σ' ex h2 Ke0 H locs ls hl G
    · intro σ' hv H locs ls hl G
      subst hv
      rcases hr with hr | ⟨a', hr, h2⟩
      · exact Ke0 σ' (Sum.inl.inj hr).symm H locs ls hl G
      · cases hr
set_option maxHeartbeats 400000 in
theorem wX6_soonest_50 (C0 : Cx ad dc D RX6 cX6_soonest 7 p s m args meth c) (a1 : Int32) (a2 : Int32) (a3 : Int32) (σ : St)  (o : Int32 × St) (h : fX6_soonest_50 a1 a2 a3 σ = some o) (Kr : KrI p l e RmX6_soonest s m args below meth c cX6_soonest Q (GW mSh mKs ad dc D A s (o.2)) o.1) (H : Heap) (locs : List Loc) (ls : Array Slot) (hl : lv_has ls 7 [(0, .ref (ad 0)), (1, .int a1), (2, .int a2), (3, .int a3)]) (G : GW mSh mKs ad dc D A s σ H locs) : W p l e RmX6_soonest s m args below meth c H locs 0 0 Q (F0 m 50 ls []) := by
  have hx := C0.1
  have hb := C0.2.1
  unfold fX6_soonest_50 at h
  obtain ⟨ex, h1, h⟩ := bn1_e h
  refine lX6_soonest_50 C0 a1 a2   FU a3 σ ex h1 ?_ H locs ls hl G
  · intro σ' hv H locs ls hl G
    rw [hv] at h
    have h : (fX6_soonest_74 a1 a2 (-1) 1 (σ')) = some o := h
    refine lv_iconst (v := (-1)) hx hb dX6_soonest_69 (by decide +kernel) ?_
    refine lv_istore_n (lv' := [(3, .int (-1)), (0, .ref (ad 0)), (1, .int a1), (2, .int a2)]) hx hb dX6_soonest_70 rfl hl (by decide) rfl (fun ls hl => ?_)
    refine lv_iconst (v := 1) hx hb dX6_soonest_71 (by decide +kernel) ?_
    refine lv_istore (lv' := [(4, .int 1), (3, .int (-1)), (0, .ref (ad 0)), (1, .int a1), (2, .int a2)]) hx hb dX6_soonest_72 hl (by decide) rfl (fun ls hl => ?_)
    exact wX6_soonest_74 C0 a1 a2 (-1) 1 (σ')  _ h Kr _ _ _ (lv_sub hl [2, 3, 4, 1, 0] rfl) G
set_option maxHeartbeats 400000 in
theorem wX6_soonest_0 (C0 : Cx ad dc D RX6 cX6_soonest 7 p s m args meth c) (a1 : Int32) (a2 : Int32) (σ : St)  (o : Int32 × St) (h : fX6_soonest a1 a2 σ = some o) (Kr : KrI p l e RmX6_soonest s m args below meth c cX6_soonest Q (GW mSh mKs ad dc D A s (o.2)) o.1) (H : Heap) (locs : List Loc) (ls : Array Slot) (hl : lv_has ls 7 [(0, .ref (ad 0)), (1, .int a1), (2, .int a2)]) (G : GW mSh mKs ad dc D A s σ H locs) : W p l e RmX6_soonest s m args below meth c H locs 0 0 Q (F0 m 0 ls []) := by
  have hx := C0.1
  have hb := C0.2.1
  unfold fX6_soonest at h
  refine lv_aload_n hx hb dX6_soonest_0 rfl (lv_at hl 0 rfl) ?_
  refine lv_iconst (v := 0) hx hb dX6_soonest_1 (by decide +kernel) ?_
  refine m_putI C0 G 0 (by decide) rfl q1514 rfl dX6_soonest_2 ⟨rfl, rfl⟩ (fun σ1 H locs e_σ1 G => ?_)
  have h := letB_e h e_σ1
  refine lv_iload_n hx hb dX6_soonest_5 rfl (lv_at hl 1 rfl) ?_
  refine lv_i2l hx hb dX6_soonest_6 rfl ?_
  refine lv_lconst (v := 1) hx hb dX6_soonest_7 (by decide) ?_
  refine lv_ldc2 hx hb C0.2.2.2.1 (C0.2.2.2.2.1 _ q1740) dX6_soonest_8 ?_
  obtain ⟨r2, h_r2, h⟩ := bn1_e h
  refine g_callSi (rest := []) C0 G hl (kX6_in (l := l) C0.2.2.2.2.2.2.1 G.2.2.2 h_r2) (va_cwS 3 C0.2.2.2.2.1 (lw_S q1721 q1722 q114 q1723) rfl rfl rfl hdX6_in ⟨Nat.le_of_ble_eq_true rfl, Nat.le_of_ble_eq_true rfl⟩) rfl (Nat.le_of_ble_eq_true rfl) dX6_soonest_11 ⟨Nat.zero_le _, Nat.zero_le _⟩ (fun H locs G => ?_)
  refine lv_if_eq (tgt := 46) hx hb dX6_soonest_14 (by decide) (fun c3 => ?_) (fun c3 => ?_)
  · have h := ite_t h c3
    refine lv_iconst (v := (-1)) hx hb dX6_soonest_46 (by decide +kernel) ?_
    cases h
    exact Kr _ _ _ _ dX6_soonest_47 G
  · have h := ite_f h c3
    refine lv_iload_n hx hb dX6_soonest_17 rfl (lv_at hl 2 rfl) ?_
    refine lv_i2l hx hb dX6_soonest_18 rfl ?_
    refine lv_ldc2 hx hb C0.2.2.2.1 (C0.2.2.2.2.1 _ q1813) dX6_soonest_19 ?_
    refine lv_aload_n hx hb dX6_soonest_22 rfl (lv_at hl 0 rfl) ?_
    refine m_getC C0 G 3 (by decide) rfl q1517 dX6_soonest_23 ?_
    refine lv_iconst (v := 2) hx hb dX6_soonest_26 (by decide +kernel) ?_
    obtain ⟨b_4, h⟩ := ckB_e h
    refine g_iald C0 G (n := 8060) (by decide) rfl b_4 dX6_soonest_27 ?_
    refine lv_i2l hx hb dX6_soonest_28 rfl ?_
    refine lv_lconst (v := 1) hx hb dX6_soonest_29 (by decide) ?_
    refine lv_lsub hx hb dX6_soonest_30 ?_
    obtain ⟨r5, h_r5, h⟩ := bn1_e h
    refine g_callSi (rest := []) C0 G hl (kX6_in (l := l) C0.2.2.2.2.2.2.1 G.2.2.2 h_r5) (va_cwS 3 C0.2.2.2.2.1 (lw_S q1721 q1722 q114 q1723) rfl rfl rfl hdX6_in ⟨Nat.le_of_ble_eq_true rfl, Nat.le_of_ble_eq_true rfl⟩) rfl (Nat.le_of_ble_eq_true rfl) dX6_soonest_31 ⟨Nat.zero_le _, Nat.zero_le _⟩ (fun H locs G => ?_)
    refine lv_if_eq (tgt := 46) hx hb dX6_soonest_34 (by decide) (fun c6 => ?_) (fun c6 => ?_)
    · have h := ite_t h c6
      refine lv_iconst (v := (-1)) hx hb dX6_soonest_46 (by decide +kernel) ?_
      cases h
      exact Kr _ _ _ _ dX6_soonest_47 G
    · have h := ite_f h c6
      refine lv_aload_n hx hb dX6_soonest_37 rfl (lv_at hl 0 rfl) ?_
      refine m_getC C0 G 3 (by decide) rfl q1517 dX6_soonest_38 ?_
      refine lv_iconst (v := 2) hx hb dX6_soonest_41 (by decide +kernel) ?_
      obtain ⟨b_7, h⟩ := ckB_e h
      refine g_iald C0 G (n := 8060) (by decide) rfl b_7 dX6_soonest_42 ?_
      refine lv_if_ne (tgt := 48) hx hb dX6_soonest_43 (by decide) (fun c8 => ?_) (fun c8 => ?_)
      · have h := ite_f h c8
        refine lv_iconst (v := 0) hx hb dX6_soonest_48 (by decide +kernel) ?_
        refine lv_istore_n (lv' := [(3, .int 0), (0, .ref (ad 0)), (1, .int a1), (2, .int a2)]) hx hb dX6_soonest_49 rfl hl (by decide) rfl (fun ls hl => ?_)
        exact wX6_soonest_50 C0 a1 a2 0 (σ1)  _ h Kr _ _ _ (lv_sub hl [1, 2, 3, 0] rfl) G
      · have h := ite_t h c8
        refine lv_iconst (v := (-1)) hx hb dX6_soonest_46 (by decide +kernel) ?_
        cases h
        exact Kr _ _ _ _ dX6_soonest_47 G
theorem kX6_soonest {l : Launch} {ad : Nat → Nat} {dc : Nat → ClassId} {D : va_G} {A : Nat → Prop}  (hi : ∀ i j, ad i = ad j → i = j) (hA : ∀ k, k ∈ mKs → A (ad k)) {σ : St} {a1 : Int32} {a2 : Int32} {r : Int32} {σ' : St}  (h : fX6_soonest a1 a2 σ = some (r, σ')) : Met l yX6_soonest (ws_ yX6_soonest cX6_soonest 7 (some .int)) RmX6_soonest (gPc mSh mKs ad dc D σ [.ref (ad 0), .int a1, .int a2]) (gQi mSh mKs ad dc D A σ' r) 0 0 A :=
  g_metI (by decide) rfl hi mKs_nd hA (Nat.le_of_ble_eq_true rfl) (fun p e s m below meth c Q C0 Kr ls hl G => wX6_soonest_0 C0 a1 a2 σ  (r, σ') h Kr _ _ ls hl G)
-- X6_count
abbrev RmX6_count : Room := { frames := 0, cells := 0, slots := 0, locals := 0 }
theorem hdX6_count : yX6_count.cls = RX6 ∧ yX6_count.cls ≠ "java/lang/invoke/MethodHandle" ∧ yX6_count.cls ≠ "java/lang/invoke/VarHandle" ∧ (parseMethodDescriptor yX6_count.desc).map (fun d => d.parameters.length) = some 1 := by decide +kernel
set_option maxHeartbeats 400000 in
theorem wX6_count_37 (C0 : Cx ad dc D RX6 cX6_count 4 p s m args meth c) (a1 : Int32) (a2 : Int32) (σ : St)  (o : Int32 × St) (h : fX6_count_37 a1 a2 σ = some o) (Kr : KrI p l e RmX6_count s m args below meth c cX6_count Q (GW mSh mKs ad dc D A s (o.2)) o.1) (H : Heap) (locs : List Loc) (ls : Array Slot) (hl : lv_has ls 4 [(0, .ref (ad 0)), (1, .int a1), (2, .int a2)]) (G : GW mSh mKs ad dc D A s σ H locs) : W p l e RmX6_count s m args below meth c H locs 0 0 Q (F0 m 37 ls []) := by
  have hx := C0.1
  have hb := C0.2.1
  unfold fX6_count_37 at h
  refine lv_iload_n hx hb dX6_count_37 rfl (lv_at hl 1 rfl) ?_
  by_cases c1 : a1 = 0
  · have h := ite_t h c1
    refine lv_tableIn (tgt := 92) hx hb dX6_count_38 (by rw [c1]; decide) (by rw [c1]; decide) (show _ = some 54 by rw [c1]; rfl) (by decide) ?_
    refine lv_aload_n hx hb dX6_count_92 rfl (lv_at hl 0 rfl) ?_
    refine m_getC C0 G 3 (by decide) rfl q1517 dX6_count_93 ?_
    refine lv_iconst (v := 0) hx hb dX6_count_96 (by decide +kernel) ?_
    obtain ⟨b_2, h⟩ := ckB_e h
    refine g_iald C0 G (n := 8060) (by decide) rfl b_2 dX6_count_97 ?_
    cases h
    exact Kr _ _ _ _ dX6_count_98 G
  · have h := ite_f h c1
    by_cases c3 : a1 = 1
    · have h := ite_t h c3
      refine lv_tableIn (tgt := 99) hx hb dX6_count_38 (by rw [c3]; decide) (by rw [c3]; decide) (show _ = some 61 by rw [c3]; rfl) (by decide) ?_
      refine lv_aload_n hx hb dX6_count_99 rfl (lv_at hl 0 rfl) ?_
      refine m_getC C0 G 3 (by decide) rfl q1517 dX6_count_100 ?_
      refine lv_iconst (v := 1) hx hb dX6_count_103 (by decide +kernel) ?_
      obtain ⟨b_4, h⟩ := ckB_e h
      refine g_iald C0 G (n := 8060) (by decide) rfl b_4 dX6_count_104 ?_
      cases h
      exact Kr _ _ _ _ dX6_count_105 G
    · have h := ite_f h c3
      by_cases c5 : a1 = 2
      · have h := ite_t h c5
        refine lv_tableIn (tgt := 106) hx hb dX6_count_38 (by rw [c5]; decide) (by rw [c5]; decide) (show _ = some 68 by rw [c5]; rfl) (by decide) ?_
        refine lv_aload_n hx hb dX6_count_106 rfl (lv_at hl 0 rfl) ?_
        refine m_getC C0 G 3 (by decide) rfl q1517 dX6_count_107 ?_
        refine lv_iconst (v := 2) hx hb dX6_count_110 (by decide +kernel) ?_
        obtain ⟨b_6, h⟩ := ckB_e h
        refine g_iald C0 G (n := 8060) (by decide) rfl b_6 dX6_count_111 ?_
        cases h
        exact Kr _ _ _ _ dX6_count_112 G
      · have h := ite_f h c5
        by_cases c7 : a1 = 3
        · have h := ite_t h c7
          refine lv_tableIn (tgt := 113) hx hb dX6_count_38 (by rw [c7]; decide) (by rw [c7]; decide) (show _ = some 75 by rw [c7]; rfl) (by decide) ?_
          refine lv_iload_n hx hb dX6_count_113 rfl (lv_at hl 2 rfl) ?_
          cases h
          exact Kr _ _ _ _ dX6_count_114 G
        · have h := ite_f h c7
          by_cases c8 : a1 = 4
          · have h := ite_t h c8
            refine lv_tableIn (tgt := 115) hx hb dX6_count_38 (by rw [c8]; decide) (by rw [c8]; decide) (show _ = some 77 by rw [c8]; rfl) (by decide) ?_
            refine lv_aload_n hx hb dX6_count_115 rfl (lv_at hl 0 rfl) ?_
            refine m_getI C0 G 7 (by decide) rfl q1521 dX6_count_116 ?_
            cases h
            exact Kr _ _ _ _ dX6_count_119 G
          · have h := ite_f h c8
            by_cases c9 : a1 = 5
            · have h := ite_t h c9
              refine lv_tableIn (tgt := 120) hx hb dX6_count_38 (by rw [c9]; decide) (by rw [c9]; decide) (show _ = some 82 by rw [c9]; rfl) (by decide) ?_
              refine lv_aload_n hx hb dX6_count_120 rfl (lv_at hl 0 rfl) ?_
              refine m_getC C0 G 2 (by decide) rfl q1516 dX6_count_121 ?_
              refine lv_iconst (v := 1) hx hb dX6_count_124 (by decide +kernel) ?_
              obtain ⟨b_10, h⟩ := ckB_e h
              refine g_iald C0 G (n := 7) (by decide) rfl b_10 dX6_count_125 ?_
              cases h
              exact Kr _ _ _ _ dX6_count_126 G
            · have h := ite_f h c9
              by_cases c11 : a1 = 6
              · have h := ite_t h c11
                refine lv_tableIn (tgt := 127) hx hb dX6_count_38 (by rw [c11]; decide) (by rw [c11]; decide) (show _ = some 89 by rw [c11]; rfl) (by decide) ?_
                refine lv_aload_n hx hb dX6_count_127 rfl (lv_at hl 0 rfl) ?_
                refine m_getC C0 G 2 (by decide) rfl q1516 dX6_count_128 ?_
                refine lv_iconst (v := 2) hx hb dX6_count_131 (by decide +kernel) ?_
                obtain ⟨b_12, h⟩ := ckB_e h
                refine g_iald C0 G (n := 7) (by decide) rfl b_12 dX6_count_132 ?_
                cases h
                exact Kr _ _ _ _ dX6_count_133 G
              · have h := ite_f h c11
                by_cases c13 : a1 = 7
                · have h := ite_t h c13
                  refine lv_tableIn (tgt := 134) hx hb dX6_count_38 (by rw [c13]; decide) (by rw [c13]; decide) (show _ = some 96 by rw [c13]; rfl) (by decide) ?_
                  refine lv_aload_n hx hb dX6_count_134 rfl (lv_at hl 0 rfl) ?_
                  refine m_getC C0 G 2 (by decide) rfl q1516 dX6_count_135 ?_
                  refine lv_iconst (v := 3) hx hb dX6_count_138 (by decide +kernel) ?_
                  obtain ⟨b_14, h⟩ := ckB_e h
                  refine g_iald C0 G (n := 7) (by decide) rfl b_14 dX6_count_139 ?_
                  cases h
                  exact Kr _ _ _ _ dX6_count_140 G
                · have h := ite_f h c13
                  by_cases c15 : a1 = 8
                  · have h := ite_t h c15
                    refine lv_tableIn (tgt := 141) hx hb dX6_count_38 (by rw [c15]; decide) (by rw [c15]; decide) (show _ = some 103 by rw [c15]; rfl) (by decide) ?_
                    refine lv_aload_n hx hb dX6_count_141 rfl (lv_at hl 0 rfl) ?_
                    refine m_getC C0 G 2 (by decide) rfl q1516 dX6_count_142 ?_
                    refine lv_iconst (v := 5) hx hb dX6_count_145 (by decide +kernel) ?_
                    obtain ⟨b_16, h⟩ := ckB_e h
                    refine g_iald C0 G (n := 7) (by decide) rfl b_16 dX6_count_146 ?_
                    cases h
                    exact Kr _ _ _ _ dX6_count_147 G
                  · have h := ite_f h c15
                    by_cases c17 : a1 = 9
                    · have h := ite_t h c17
                      refine lv_tableIn (tgt := 148) hx hb dX6_count_38 (by rw [c17]; decide) (by rw [c17]; decide) (show _ = some 110 by rw [c17]; rfl) (by decide) ?_
                      refine lv_aload_n hx hb dX6_count_148 rfl (lv_at hl 0 rfl) ?_
                      refine m_getC C0 G 2 (by decide) rfl q1516 dX6_count_149 ?_
                      refine lv_bipush (v := 6) hx hb dX6_count_152 (by decide +kernel) ?_
                      obtain ⟨b_18, h⟩ := ckB_e h
                      refine g_iald C0 G (n := 7) (by decide) rfl b_18 dX6_count_154 ?_
                      cases h
                      exact Kr _ _ _ _ dX6_count_155 G
                    · have h := ite_f h c17
                      refine lv_tableOut (tgt := 156) hx hb dX6_count_38 (by have q0 := lv_neT (a := 0) c1 (by decide); have q1 := lv_neT (a := 1) c3 (by decide); have q2 := lv_neT (a := 2) c5 (by decide); have q3 := lv_neT (a := 3) c7 (by decide); have q4 := lv_neT (a := 4) c8 (by decide); have q5 := lv_neT (a := 5) c9 (by decide); have q6 := lv_neT (a := 6) c11 (by decide); have q7 := lv_neT (a := 7) c13 (by decide); have q8 := lv_neT (a := 8) c15 (by decide); have q9 := lv_neT (a := 9) c17 (by decide); omega) (by decide) ?_
                      refine lv_iconst (v := (-1)) hx hb dX6_count_156 (by decide +kernel) ?_
                      cases h
                      exact Kr _ _ _ _ dX6_count_157 G
set_option maxHeartbeats 400000 in
theorem wbX6_count_9 (C0 : Cx ad dc D RX6 cX6_count 4 p s m args meth c) (a1 : Int32) (a2 : Int32) (a3 : Int32) (σ : St)  (o : (Int32) ⊕ (Int32 × Int32)) (h : bX6_count_9 a1 a2 a3 σ = some o) (Kb : ∀ (b2 : Int32) (b3 : Int32), o = .inr (b2, b3) → ∀ (H : Heap) (locs : List Loc) (ls : Array Slot), lv_has ls 4 [(0, .ref (ad 0)), (1, .int a1), (2, .int b2), (3, .int b3)] → GW mSh mKs ad dc D A s σ H locs → W p l e RmX6_count s m args below meth c H locs 0 0 Q (F0 m 9 ls [])) (Ke0 : ∀ (b2 : Int32), o = .inl b2 → ∀ (H : Heap) (locs : List Loc) (ls : Array Slot), lv_has ls 4 [(0, .ref (ad 0)), (1, .int a1), (2, .int b2)] → GW mSh mKs ad dc D A s σ H locs → W p l e RmX6_count s m args below meth c H locs 0 0 Q (F0 m 37 ls [])) (H : Heap) (locs : List Loc) (ls : Array Slot) (hl : lv_has ls 4 [(0, .ref (ad 0)), (1, .int a1), (2, .int a2), (3, .int a3)]) (G : GW mSh mKs ad dc D A s σ H locs) : W p l e RmX6_count s m args below meth c H locs 0 0 Q (F0 m 9 ls []) := by
  have hx := C0.1
  have hb := C0.2.1
  unfold bX6_count_9 at h
  refine lv_iload_n hx hb dX6_count_9 rfl (lv_at hl 3 rfl) ?_
  refine lv_aload_n hx hb dX6_count_10 rfl (lv_at hl 0 rfl) ?_
  refine m_getC C0 G 3 (by decide) rfl q1517 dX6_count_11 ?_
  refine lv_iconst (v := 0) hx hb dX6_count_14 (by decide +kernel) ?_
  obtain ⟨b_1, h⟩ := ckB_e h
  refine g_iald C0 G (n := 8060) (by decide) rfl b_1 dX6_count_15 ?_
  refine lv_icmp_ge (tgt := 37) hx hb dX6_count_16 (by decide) (fun c2 => ?_) (fun c2 => ?_)
  · have h := ite_t h c2
    cases h
    exact Ke0 a2 rfl _ _ _ (lv_sub hl [0, 1, 2] rfl) G
  · have h := ite_f h c2
    refine lv_iload_n hx hb dX6_count_19 rfl (lv_at hl 2 rfl) ?_
    refine lv_aload_n hx hb dX6_count_20 rfl (lv_at hl 0 rfl) ?_
    refine m_getC C0 G 3 (by decide) rfl q1517 dX6_count_21 ?_
    refine lv_bipush (v := 20) hx hb dX6_count_24 (by decide +kernel) ?_
    refine lv_iload_n hx hb dX6_count_26 rfl (lv_at hl 3 rfl) ?_
    refine lv_iadd hx hb dX6_count_27 ?_
    obtain ⟨b_3, h⟩ := ckB_e h
    refine g_iald C0 G (n := 8060) (by decide) rfl b_3 dX6_count_28 ?_
    refine lv_iadd hx hb dX6_count_29 ?_
    refine lv_topi (fun x4 e_x4 => ?_)
    have h := letB_e h e_x4
    refine lv_istore_n (lv' := [(2, .int x4), (0, .ref (ad 0)), (1, .int a1), (3, .int a3)]) hx hb dX6_count_30 rfl hl (by decide) rfl (fun ls hl => ?_)
    obtain ⟨x5, e_x5⟩ : ∃ z : Int32, z = a3 + 1 := ⟨_, rfl⟩
    have h := letB_e h e_x5
    refine lv_iinc (v := x5) (lv' := [(3, .int x5), (2, .int x4), (0, .ref (ad 0)), (1, .int a1)]) hx hb dX6_count_31 hl (k := 3) rfl ((congrArg (fun z => a3 + z) (show Int32.ofInt 1 = 1 by decide)).trans e_x5.symm) (by decide) rfl (fun ls hl => ?_)
    refine lv_goto (tgt := 9) hx hb dX6_count_34 (by decide) ?_
    cases h
    exact Kb x4 x5 rfl _ _ _ (lv_sub hl [2, 3, 1, 0] rfl) G
set_option maxHeartbeats 400000 in
theorem lX6_count_9 (C0 : Cx ad dc D RX6 cX6_count 4 p s m args meth c) (a1 : Int32) (σ : St)  : ∀ (n : Nat) (a2 : Int32) (a3 : Int32) (ex : Int32) (h : iter (fun v : Int32 × Int32 => bX6_count_9 a1 v.1 v.2 σ) n (a2, a3) = some ex) (Ke0 : ∀ (b2 : Int32), ex = b2 → ∀ (H : Heap) (locs : List Loc) (ls : Array Slot), lv_has ls 4 [(0, .ref (ad 0)), (1, .int a1), (2, .int b2)] → GW mSh mKs ad dc D A s σ H locs → W p l e RmX6_count s m args below meth c H locs 0 0 Q (F0 m 37 ls [])) (H : Heap) (locs : List Loc) (ls : Array Slot) (hl : lv_has ls 4 [(0, .ref (ad 0)), (1, .int a1), (2, .int a2), (3, .int a3)]) (G : GW mSh mKs ad dc D A s σ H locs), W p l e RmX6_count s m args below meth c H locs 0 0 Q (F0 m 9 ls []) := by
  intro n
  induction n with
  | zero =>
    intro a2 a3 ex h
    cases h
  | succ n ih =>
    intro a2 a3 ex h Ke0 H locs ls hl G
    obtain ⟨r, hb1, hr⟩ := iter_e h
    refine wbX6_count_9 C0 a1 a2 a3 σ  r hb1 ?_ ?_ H locs ls hl G
    · intro b2 b3 hv H locs ls hl G
      subst hv
      rcases hr with hr | ⟨a', hr, h2⟩
      · cases hr
      · rw [← Sum.inr.inj hr] at h2
        exact ih b2 b3 ex h2 Ke0 H locs ls hl G
    · intro b2 hv H locs ls hl G
      subst hv
      rcases hr with hr | ⟨a', hr, h2⟩
      · exact Ke0 b2 (Sum.inl.inj hr).symm H locs ls hl G
      · cases hr
set_option maxHeartbeats 400000 in
theorem wX6_count_9 (C0 : Cx ad dc D RX6 cX6_count 4 p s m args meth c) (a1 : Int32) (a2 : Int32) (a3 : Int32) (σ : St)  (o : Int32 × St) (h : fX6_count_9 a1 a2 a3 σ = some o) (Kr : KrI p l e RmX6_count s m args below meth c cX6_count Q (GW mSh mKs ad dc D A s (o.2)) o.1) (H : Heap) (locs : List Loc) (ls : Array Slot) (hl : lv_has ls 4 [(0, .ref (ad 0)), (1, .int a1), (2, .int a2), (3, .int a3)]) (G : GW mSh mKs ad dc D A s σ H locs) : W p l e RmX6_count s m args below meth c H locs 0 0 Q (F0 m 9 ls []) := by
  have hx := C0.1
  have hb := C0.2.1
  unfold fX6_count_9 at h
  obtain ⟨ex, h1, h⟩ := bn1_e h
  refine lX6_count_9 C0 a1 σ  FU a2 a3 ex h1 ?_ H locs ls hl G
  · intro b2 hv H locs ls hl G
    rw [hv] at h
    have h : (fX6_count_37 a1 b2 (σ)) = some o := h
    exact wX6_count_37 C0 a1 b2 (σ)  _ h Kr _ _ _ hl G
set_option maxHeartbeats 400000 in
theorem wX6_count_0 (C0 : Cx ad dc D RX6 cX6_count 4 p s m args meth c) (a1 : Int32) (σ : St)  (o : Int32 × St) (h : fX6_count a1 σ = some o) (Kr : KrI p l e RmX6_count s m args below meth c cX6_count Q (GW mSh mKs ad dc D A s (o.2)) o.1) (H : Heap) (locs : List Loc) (ls : Array Slot) (hl : lv_has ls 4 [(0, .ref (ad 0)), (1, .int a1)]) (G : GW mSh mKs ad dc D A s σ H locs) : W p l e RmX6_count s m args below meth c H locs 0 0 Q (F0 m 0 ls []) := by
  have hx := C0.1
  have hb := C0.2.1
  unfold fX6_count at h
  refine lv_aload_n hx hb dX6_count_0 rfl (lv_at hl 0 rfl) ?_
  refine lv_iconst (v := 0) hx hb dX6_count_1 (by decide +kernel) ?_
  refine m_putI C0 G 0 (by decide) rfl q1514 rfl dX6_count_2 ⟨rfl, rfl⟩ (fun σ1 H locs e_σ1 G => ?_)
  have h := letB_e h e_σ1
  refine lv_iconst (v := 0) hx hb dX6_count_5 (by decide +kernel) ?_
  refine lv_istore_n (lv' := [(2, .int 0), (0, .ref (ad 0)), (1, .int a1)]) hx hb dX6_count_6 rfl hl (by decide) rfl (fun ls hl => ?_)
  refine lv_iconst (v := 0) hx hb dX6_count_7 (by decide +kernel) ?_
  refine lv_istore_n (lv' := [(3, .int 0), (2, .int 0), (0, .ref (ad 0)), (1, .int a1)]) hx hb dX6_count_8 rfl hl (by decide) rfl (fun ls hl => ?_)
  exact wX6_count_9 C0 a1 0 0 (σ1)  _ h Kr _ _ _ (lv_sub hl [2, 3, 1, 0] rfl) G
theorem kX6_count {l : Launch} {ad : Nat → Nat} {dc : Nat → ClassId} {D : va_G} {A : Nat → Prop}  (hi : ∀ i j, ad i = ad j → i = j) (hA : ∀ k, k ∈ mKs → A (ad k)) {σ : St} {a1 : Int32} {r : Int32} {σ' : St}  (h : fX6_count a1 σ = some (r, σ')) : Met l yX6_count (ws_ yX6_count cX6_count 4 (some .int)) RmX6_count (gPc mSh mKs ad dc D σ [.ref (ad 0), .int a1]) (gQi mSh mKs ad dc D A σ' r) 0 0 A :=
  g_metI (by decide) rfl hi mKs_nd hA (Nat.le_of_ble_eq_true rfl) (fun p e s m below meth c Q C0 Kr ls hl G => wX6_count_0 C0 a1 σ  (r, σ') h Kr _ _ ls hl G)
-- X6_status
abbrev RmX6_status : Room := { frames := 0, cells := 0, slots := 0, locals := 0 }
theorem hdX6_status : yX6_status.cls = RX6 ∧ yX6_status.cls ≠ "java/lang/invoke/MethodHandle" ∧ yX6_status.cls ≠ "java/lang/invoke/VarHandle" ∧ (parseMethodDescriptor yX6_status.desc).map (fun d => d.parameters.length) = some 0 := by decide +kernel
set_option maxHeartbeats 400000 in
theorem wX6_status_0 (C0 : Cx ad dc D RX6 cX6_status 1 p s m args meth c) (σ : St)  (o : Int32 × St) (h : fX6_status σ = some o) (Kr : KrI p l e RmX6_status s m args below meth c cX6_status Q (GW mSh mKs ad dc D A s (o.2)) o.1) (H : Heap) (locs : List Loc) (ls : Array Slot) (hl : lv_has ls 1 [(0, .ref (ad 0))]) (G : GW mSh mKs ad dc D A s σ H locs) : W p l e RmX6_status s m args below meth c H locs 0 0 Q (F0 m 0 ls []) := by
  have hx := C0.1
  have hb := C0.2.1
  unfold fX6_status at h
  refine lv_aload_n hx hb dX6_status_0 rfl (lv_at hl 0 rfl) ?_
  refine lv_iconst (v := 0) hx hb dX6_status_1 (by decide +kernel) ?_
  refine m_putI C0 G 0 (by decide) rfl q1514 rfl dX6_status_2 ⟨rfl, rfl⟩ (fun σ1 H locs e_σ1 G => ?_)
  have h := letB_e h e_σ1
  refine lv_aload_n hx hb dX6_status_5 rfl (lv_at hl 0 rfl) ?_
  refine m_getI C0 G 1 (by decide) rfl q1515 dX6_status_6 ?_
  cases h
  exact Kr _ _ _ _ dX6_status_9 G
theorem kX6_status {l : Launch} {ad : Nat → Nat} {dc : Nat → ClassId} {D : va_G} {A : Nat → Prop}  (hi : ∀ i j, ad i = ad j → i = j) (hA : ∀ k, k ∈ mKs → A (ad k)) {σ : St}  {r : Int32} {σ' : St}  (h : fX6_status σ = some (r, σ')) : Met l yX6_status (ws_ yX6_status cX6_status 1 (some .int)) RmX6_status (gPc mSh mKs ad dc D σ [.ref (ad 0)]) (gQi mSh mKs ad dc D A σ' r) 0 0 A :=
  g_metI (by decide) rfl hi mKs_nd hA (Nat.le_of_ble_eq_true rfl) (fun p e s m below meth c Q C0 Kr ls hl G => wX6_status_0 C0  σ  (r, σ') h Kr _ _ ls hl G)
end
