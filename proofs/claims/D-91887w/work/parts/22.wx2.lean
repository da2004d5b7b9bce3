/-! HotIron: the walks of its methods over the static cells, 2 -/
set_option maxRecDepth 100000
section
variable {q0 : Nat} {p : Program} {l : Launch} {e : Env} {s : State} {m : MethodId} {args : Array Value} {below : List Frame} {meth : Method} {c : Code} {Q : State → Prop} {sh : Nat → Sh} {ks : List Nat} {ad : Nat → Nat} {dc : Nat → ClassId} {D : va_G} {A : Nat → Prop}
-- X3_chooses
abbrev RmX3_chooses : Room := { frames := 4, cells := 0, slots := 0, locals := 105 }
theorem hdX3_chooses : yX3_chooses.cls = RX3 ∧ yX3_chooses.cls ≠ "java/lang/invoke/MethodHandle" ∧ yX3_chooses.cls ≠ "java/lang/invoke/VarHandle" ∧ (parseMethodDescriptor yX3_chooses.desc).map (fun d => d.parameters.length) = some 1 := by decide +kernel
set_option maxHeartbeats 400000 in
theorem wbX3_chooses_43 (C0 : Cx ad dc D RX3 cX3_chooses 5 p s m args meth c) (a2 : Int32) (a3 : Int32) (a4 : Int32) (σ : St) (hX : XOK ks sh) (hq0 : isP q0) (o : (St) ⊕ (Int32 × Int32 × St)) (h : bX3_chooses_43 q0 a2 a3 a4 σ = some o) (Kb : ∀ (b3 : Int32) (b4 : Int32) (σ' : St), o = .inr (b3, b4, σ') → ∀ (H : Heap) (locs : List Loc) (ls : Array Slot), lv_has ls 5 [(0, .ref (ad q0)), (2, .int a2), (3, .int b3), (4, .int b4)] → GW sh ks ad dc D A s σ' H locs → W p l e RmX3_chooses s m args below meth c H locs 0 0 Q (F0 m 43 ls [])) (Ke0 : ∀  (σ' : St), o = .inl (σ') → ∀ (H : Heap) (locs : List Loc) (ls : Array Slot), lv_has ls 5 [(0, .ref (ad q0)), (2, .int a2)] → GW sh ks ad dc D A s σ' H locs → W p l e RmX3_chooses s m args below meth c H locs 0 0 Q (F0 m 78 ls [])) (H : Heap) (locs : List Loc) (ls : Array Slot) (hl : lv_has ls 5 [(0, .ref (ad q0)), (2, .int a2), (3, .int a3), (4, .int a4)]) (G : GW sh ks ad dc D A s σ H locs) : W p l e RmX3_chooses s m args below meth c H locs 0 0 Q (F0 m 43 ls []) := by
  have hx := C0.1
  have hb := C0.2.1
  unfold bX3_chooses_43 at h
  refine lv_iload hx hb dX3_chooses_43 (lv_at hl 3 rfl) ?_
  refine lv_aload_n hx hb dX3_chooses_45 rfl (lv_at hl 0 rfl) ?_
  refine g_getI C0 G in_X3 (ci := 3) rfl (hX.1 _ (xP_l hq0)) (fl := (xFlX3 q0)) ((hX.2.1 _ (xP_l hq0)).trans (xP_s hq0)) 10 (by decide) rfl q345 dX3_chooses_46 ?_
  refine lv_icmp_ge (tgt := 78) hx hb dX3_chooses_49 (by decide) (fun c1 => ?_) (fun c1 => ?_)
  · have h := ite_t h c1
    cases h
    exact Ke0 (σ) rfl _ _ _ (lv_sub hl [0, 1] rfl) G
  · have h := ite_f h c1
    refine lv_iload_n hx hb dX3_chooses_52 rfl (lv_at hl 2 rfl) ?_
    refine lv_if_ne (tgt := 78) hx hb dX3_chooses_53 (by decide) (fun c2 => ?_) (fun c2 => ?_)
    · have h := ite_f h c2
      cases h
      exact Ke0 (σ) rfl _ _ _ (lv_sub hl [0, 1] rfl) G
    · have h := ite_t h c2
      refine lv_aload_n hx hb dX3_chooses_56 rfl (lv_at hl 0 rfl) ?_
      refine lv_iload_n hx hb dX3_chooses_57 rfl (lv_at hl 1 rfl) ?_
      refine lv_iload hx hb dX3_chooses_58 (lv_at hl 3 rfl) ?_
      obtain ⟨r3, σ4, h_r3, h⟩ := bn2_e h
      refine g_callVi (rest := []) C0 G hl (ci := 3) rfl (hX.1 _ (xP_l hq0)) (fl := (xFlX3 q0)) ((hX.2.1 _ (xP_l hq0)).trans (xP_s hq0)) (kX3_leadsOn (l := l) C0.2.2.2.2.2.2.1 G.2.2.1 G.2.2.2 hX hq0 h_r3) (cwV 2 C0.2.2.2.2.1 (lw_V q1403 q1405 qs45 q111 q1406) rfl rfl rfl hdX3_leadsOn ⟨Nat.le_of_ble_eq_true rfl, Nat.le_of_ble_eq_true rfl⟩) rfl (Nat.le_of_ble_eq_true rfl) dX3_chooses_60 ⟨Nat.zero_le _, Nat.zero_le _⟩ (fun H locs G => ?_)
      refine lv_istore_n (lv' := [(3, .int r3), (0, .ref (ad q0)), (2, .int a2), (4, .int a4)]) hx hb dX3_chooses_63 rfl hl (by decide) rfl (fun ls hl => ?_)
      refine lv_aload_n hx hb dX3_chooses_64 rfl (lv_at hl 1 rfl) ?_
      refine g_getC C0 G in_X3 (ci := 3) rfl (hX.1 _ (xP_l hq0)) (fl := (xFlX3 q0)) ((hX.2.1 _ (xP_l hq0)).trans (xP_s hq0)) 8 (by decide) rfl q341 dX3_chooses_65 ?_
      refine lv_iload_n hx hb dX3_chooses_68 rfl (lv_at hl 2 rfl) ?_
      refine lv_iload hx hb dX3_chooses_69 (lv_at hl 3 rfl) ?_
      obtain ⟨b_5, h⟩ := ckB_e h
      refine g_iast C0 G (n := 6) (hX.1 _ (xP_l9 hq0)) ((hX.2.1 _ (xP_l9 hq0)).trans (xP_s9 hq0)) b_5 dX3_chooses_71 (fun σ6 H locs e_σ6 G => ?_)
      have h := letB_e h e_σ6
      obtain ⟨x7, e_x7⟩ : ∃ z : Int32, z = a4 + 1 := ⟨_, rfl⟩
      have h := letB_e h e_x7
      refine lv_iinc (v := x7) (lv' := [(4, .int x7), (3, .int r3), (0, .ref (ad q0)), (2, .int a2)]) hx hb dX3_chooses_72 hl (k := 3) rfl ((congrArg (fun z => a4 + z) (show Int32.ofInt 1 = 1 by decide)).trans e_x7.symm) (by decide) rfl (fun ls hl => ?_)
      refine lv_goto (tgt := 43) hx hb dX3_chooses_75 (by decide) ?_
      cases h
      exact Kb r3 x7 (σ6) rfl _ _ _ (lv_sub hl [2, 3, 1, 0] rfl) G
set_option maxHeartbeats 400000 in
theorem lX3_chooses_43 (C0 : Cx ad dc D RX3 cX3_chooses 5 p s m args meth c) (a2 : Int32)  (hX : XOK ks sh) (hq0 : isP q0) : ∀ (n : Nat) (a3 : Int32) (a4 : Int32) (σ : St) (ex : St) (h : iter (fun v : Int32 × Int32 × St => bX3_chooses_43 q0 a2 v.1 v.2.1 v.2.2) n (a3, a4, σ) = some ex) (Ke0 : ∀  (σ' : St), ex = σ' → ∀ (H : Heap) (locs : List Loc) (ls : Array Slot), lv_has ls 5 [(0, .ref (ad q0)), (2, .int a2)] → GW sh ks ad dc D A s σ' H locs → W p l e RmX3_chooses s m args below meth c H locs 0 0 Q (F0 m 78 ls [])) (H : Heap) (locs : List Loc) (ls : Array Slot) (hl : lv_has ls 5 [(0, .ref (ad q0)), (2, .int a2), (3, .int a3), (4, .int a4)]) (G : GW sh ks ad dc D A s σ H locs), W p l e RmX3_chooses s m args below meth c H locs 0 0 Q (F0 m 43 ls []) := by
  intro n
  induction n with
  | zero =>
    intro a3 a4 σ ex h
    cases h
  | succ n ih =>
    intro a3 a4 σ ex h Ke0 H locs ls hl G
    obtain ⟨r, hb1, hr⟩ := iter_e h
    refine wbX3_chooses_43 C0 a2 a3 a4 σ hX hq0 r hb1 ?_ ?_ H locs ls hl G
    · intro b3 b4 σ' hv H locs ls hl G
      subst hv
      rcases hr with hr | ⟨a', hr, h2⟩
      · cases hr
      · rw [← Sum.inr.inj hr] at h2
        exact ih b3 b4 σ' ex h2 Ke0 H locs ls hl G
    · intro σ' hv H locs ls hl G
      subst hv
      rcases hr with hr | ⟨a', hr, h2⟩
      · exact Ke0 σ' (Sum.inl.inj hr).symm H locs ls hl G
      · cases hr
set_option maxHeartbeats 400000 in
theorem wX3_chooses_43 (C0 : Cx ad dc D RX3 cX3_chooses 5 p s m args meth c) (a2 : Int32) (a3 : Int32) (a4 : Int32) (σ : St) (hX : XOK ks sh) (hq0 : isP q0) (o : (St) ⊕ (Int32 × St)) (h : fX3_chooses_43 q0 a2 a3 a4 σ = some o) (Kb : ∀ (b2 : Int32) (σ' : St), o = .inr (b2, σ') → ∀ (H : Heap) (locs : List Loc) (ls : Array Slot), lv_has ls 5 [(0, .ref (ad q0)), (2, .int b2)] → GW sh ks ad dc D A s σ' H locs → W p l e RmX3_chooses s m args below meth c H locs 0 0 Q (F0 m 30 ls [])) (Ke0 : ∀  (σ' : St), o = .inl (σ') → ∀ (H : Heap) (locs : List Loc) (ls : Array Slot), lv_has ls 5 [] → GW sh ks ad dc D A s σ' H locs → W p l e RmX3_chooses s m args below meth c H locs 0 0 Q (F0 m 84 ls [])) (H : Heap) (locs : List Loc) (ls : Array Slot) (hl : lv_has ls 5 [(0, .ref (ad q0)), (2, .int a2), (3, .int a3), (4, .int a4)]) (G : GW sh ks ad dc D A s σ H locs) : W p l e RmX3_chooses s m args below meth c H locs 0 0 Q (F0 m 43 ls []) := by
  have hx := C0.1
  have hb := C0.2.1
  unfold fX3_chooses_43 at h
  obtain ⟨ex, h1, h⟩ := bn1_e h
  refine lX3_chooses_43 C0 a2  hX hq0 FU a3 a4 σ ex h1 ?_ H locs ls hl G
  · intro σ' hv H locs ls hl G
    rw [hv] at h
    have h : (letB (a2 + 1) (fun x1 => some (.inr (x1, σ')))) = some o := h
    obtain ⟨x1, e_x1⟩ : ∃ z : Int32, z = a2 + 1 := ⟨_, rfl⟩
    have h := letB_e h e_x1
    refine lv_iinc (v := x1) (lv' := [(2, .int x1), (0, .ref (ad q0))]) hx hb dX3_chooses_78 hl (k := 1) rfl ((congrArg (fun z => a2 + z) (show Int32.ofInt 1 = 1 by decide)).trans e_x1.symm) (by decide) rfl (fun ls hl => ?_)
    refine lv_goto (tgt := 30) hx hb dX3_chooses_81 (by decide) ?_
    cases h
    exact Kb x1 (σ') rfl _ _ _ (lv_sub hl [1, 0] rfl) G
set_option maxHeartbeats 400000 in
theorem wbX3_chooses_30 (C0 : Cx ad dc D RX3 cX3_chooses 5 p s m args meth c) (a2 : Int32) (σ : St) (hX : XOK ks sh) (hq0 : isP q0) (o : (St) ⊕ (Int32 × St)) (h : bX3_chooses_30 q0 a2 σ = some o) (Kb : ∀ (b2 : Int32) (σ' : St), o = .inr (b2, σ') → ∀ (H : Heap) (locs : List Loc) (ls : Array Slot), lv_has ls 5 [(0, .ref (ad q0)), (2, .int b2)] → GW sh ks ad dc D A s σ' H locs → W p l e RmX3_chooses s m args below meth c H locs 0 0 Q (F0 m 30 ls [])) (Ke0 : ∀  (σ' : St), o = .inl (σ') → ∀ (H : Heap) (locs : List Loc) (ls : Array Slot), lv_has ls 5 [] → GW sh ks ad dc D A s σ' H locs → W p l e RmX3_chooses s m args below meth c H locs 0 0 Q (F0 m 84 ls [])) (H : Heap) (locs : List Loc) (ls : Array Slot) (hl : lv_has ls 5 [(0, .ref (ad q0)), (2, .int a2)]) (G : GW sh ks ad dc D A s σ H locs) : W p l e RmX3_chooses s m args below meth c H locs 0 0 Q (F0 m 30 ls []) := by
  have hx := C0.1
  have hb := C0.2.1
  unfold bX3_chooses_30 at h
  refine lv_iload_n hx hb dX3_chooses_30 rfl (lv_at hl 1 rfl) ?_
  refine lv_aload_n hx hb dX3_chooses_31 rfl (lv_at hl 0 rfl) ?_
  refine g_getI C0 G in_X3 (ci := 3) rfl (hX.1 _ (xP_l hq0)) (fl := (xFlX3 q0)) ((hX.2.1 _ (xP_l hq0)).trans (xP_s hq0)) 15 (by decide) rfl q350 dX3_chooses_32 ?_
  refine lv_icmp_ge (tgt := 84) hx hb dX3_chooses_35 (by decide) (fun c1 => ?_) (fun c1 => ?_)
  · have h := ite_t h c1
    cases h
    exact Ke0 (σ) rfl _ _ _ (lv_sub hl [] rfl) G
  · have h := ite_f h c1
    refine lv_iconst (v := 0) hx hb dX3_chooses_38 (by decide +kernel) ?_
    refine lv_istore_n (lv' := [(3, .int 0), (0, .ref (ad q0)), (2, .int a2)]) hx hb dX3_chooses_39 rfl hl (by decide) rfl (fun ls hl => ?_)
    refine lv_iconst (v := 0) hx hb dX3_chooses_40 (by decide +kernel) ?_
    refine lv_istore (lv' := [(4, .int 0), (3, .int 0), (0, .ref (ad q0)), (2, .int a2)]) hx hb dX3_chooses_41 hl (by decide) rfl (fun ls hl => ?_)
    exact wX3_chooses_43 C0 a2 0 0 (σ) hX hq0 _ h Kb Ke0 _ _ _ (lv_sub hl [2, 3, 1, 0] rfl) G
set_option maxHeartbeats 400000 in
theorem lX3_chooses_30 (C0 : Cx ad dc D RX3 cX3_chooses 5 p s m args meth c)   (hX : XOK ks sh) (hq0 : isP q0) : ∀ (n : Nat) (a2 : Int32) (σ : St) (ex : St) (h : iter (fun v : Int32 × St => bX3_chooses_30 q0 v.1 v.2) n (a2, σ) = some ex) (Ke0 : ∀  (σ' : St), ex = σ' → ∀ (H : Heap) (locs : List Loc) (ls : Array Slot), lv_has ls 5 [] → GW sh ks ad dc D A s σ' H locs → W p l e RmX3_chooses s m args below meth c H locs 0 0 Q (F0 m 84 ls [])) (H : Heap) (locs : List Loc) (ls : Array Slot) (hl : lv_has ls 5 [(0, .ref (ad q0)), (2, .int a2)]) (G : GW sh ks ad dc D A s σ H locs), W p l e RmX3_chooses s m args below meth c H locs 0 0 Q (F0 m 30 ls []) := by
  intro n
  induction n with
  | zero =>
    intro a2 σ ex h
    cases h
  | succ n ih =>
    intro a2 σ ex h Ke0 H locs ls hl G
    obtain ⟨r, hb1, hr⟩ := iter_e h
    refine wbX3_chooses_30 C0 a2 σ hX hq0 r hb1 ?_ ?_ H locs ls hl G
    · intro b2 σ' hv H locs ls hl G
      subst hv
      rcases hr with hr | ⟨a', hr, h2⟩
      · cases hr
      · rw [← Sum.inr.inj hr] at h2
        exact ih b2 σ' ex h2 Ke0 H locs ls hl G
    · intro σ' hv H locs ls hl G
      subst hv
      rcases hr with hr | ⟨a', hr, h2⟩
      · exact Ke0 σ' (Sum.inl.inj hr).symm H locs ls hl G
      · cases hr
set_option maxHeartbeats 400000 in
theorem wX3_chooses_30 (C0 : Cx ad dc D RX3 cX3_chooses 5 p s m args meth c) (a2 : Int32) (σ : St) (hX : XOK ks sh) (hq0 : isP q0) (o : St) (h : fX3_chooses_30 q0 a2 σ = some o) (Kr : KrV p l e RmX3_chooses s m args below meth c cX3_chooses Q (GW sh ks ad dc D A s o)) (H : Heap) (locs : List Loc) (ls : Array Slot) (hl : lv_has ls 5 [(0, .ref (ad q0)), (2, .int a2)]) (G : GW sh ks ad dc D A s σ H locs) : W p l e RmX3_chooses s m args below meth c H locs 0 0 Q (F0 m 30 ls []) := by
  have hx := C0.1
  have hb := C0.2.1
  unfold fX3_chooses_30 at h
  obtain ⟨ex, h1, h⟩ := bn1_e h
  refine lX3_chooses_30 C0   hX hq0 FU a2 σ ex h1 ?_ H locs ls hl G
  · intro σ' hv H locs ls hl G
    rw [hv] at h
    have h : (some σ') = some o := h
    cases h
    exact Kr _ _ _ _ dX3_chooses_84 G
set_option maxHeartbeats 400000 in
theorem wX3_chooses_21 (C0 : Cx ad dc D RX3 cX3_chooses 5 p s m args meth c) (a1 : Int32) (σ : St) (hX : XOK ks sh) (hq0 : isP q0) (o : St) (h : fX3_chooses_21 q0 a1 σ = some o) (Kr : KrV p l e RmX3_chooses s m args below meth c cX3_chooses Q (GW sh ks ad dc D A s o)) (H : Heap) (locs : List Loc) (ls : Array Slot) (hl : lv_has ls 5 [(0, .ref (ad q0)), (1, .int a1)]) (G : GW sh ks ad dc D A s σ H locs) : W p l e RmX3_chooses s m args below meth c H locs 0 0 Q (F0 m 21 ls []) := by
  have hx := C0.1
  have hb := C0.2.1
  unfold fX3_chooses_21 at h
  refine lv_aload_n hx hb dX3_chooses_21 rfl (lv_at hl 0 rfl) ?_
  refine g_getC C0 G in_X3 (ci := 3) rfl (hX.1 _ (xP_l hq0)) (fl := (xFlX3 q0)) ((hX.2.1 _ (xP_l hq0)).trans (xP_s hq0)) 2 (by decide) rfl q334 dX3_chooses_22 ?_
  refine lv_iload_n hx hb dX3_chooses_25 rfl (lv_at hl 1 rfl) ?_
  refine lv_iconst (v := 1) hx hb dX3_chooses_26 (by decide +kernel) ?_
  obtain ⟨b_1, h⟩ := ckB_e h
  refine g_bast C0 G (n := 59049) (hX.1 _ (xP_l3 hq0)) ((hX.2.1 _ (xP_l3 hq0)).trans (xP_s3 hq0)) b_1 dX3_chooses_27 (fun σ2 H locs e_σ2 G => ?_)
  have h := letB_e h e_σ2
  refine lv_iconst (v := 0) hx hb dX3_chooses_28 (by decide +kernel) ?_
  refine lv_istore_n (lv' := [(2, .int 0), (0, .ref (ad q0)), (1, .int a1)]) hx hb dX3_chooses_29 rfl hl (by decide) rfl (fun ls hl => ?_)
  exact wX3_chooses_30 C0 0 (σ2) hX hq0 _ h Kr _ _ _ (lv_sub hl [1, 0] rfl) G
set_option maxHeartbeats 400000 in
theorem wbX3_chooses_2 (C0 : Cx ad dc D RX3 cX3_chooses 5 p s m args meth c) (a1 : Int32) (a2 : Int32) (σ : St) (hX : XOK ks sh) (hq0 : isP q0) (o : (St) ⊕ (Int32 × St)) (h : bX3_chooses_2 q0 a1 a2 σ = some o) (Kb : ∀ (b2 : Int32) (σ' : St), o = .inr (b2, σ') → ∀ (H : Heap) (locs : List Loc) (ls : Array Slot), lv_has ls 5 [(0, .ref (ad q0)), (1, .int a1), (2, .int b2)] → GW sh ks ad dc D A s σ' H locs → W p l e RmX3_chooses s m args below meth c H locs 0 0 Q (F0 m 2 ls [])) (Ke0 : ∀  (σ' : St), o = .inl (σ') → ∀ (H : Heap) (locs : List Loc) (ls : Array Slot), lv_has ls 5 [(0, .ref (ad q0)), (1, .int a1)] → GW sh ks ad dc D A s σ' H locs → W p l e RmX3_chooses s m args below meth c H locs 0 0 Q (F0 m 21 ls [])) (H : Heap) (locs : List Loc) (ls : Array Slot) (hl : lv_has ls 5 [(0, .ref (ad q0)), (1, .int a1), (2, .int a2)]) (G : GW sh ks ad dc D A s σ H locs) : W p l e RmX3_chooses s m args below meth c H locs 0 0 Q (F0 m 2 ls []) := by
  have hx := C0.1
  have hb := C0.2.1
  unfold bX3_chooses_2 at h
  refine lv_iload_n hx hb dX3_chooses_2 rfl (lv_at hl 2 rfl) ?_
  refine lv_ldc hx hb C0.2.2.2.1 (C0.2.2.2.2.1 _ q331) dX3_chooses_3 ?_
  refine lv_icmp_ge (tgt := 21) hx hb dX3_chooses_5 (by decide) (fun c1 => ?_) (fun c1 => ?_)
  · have h := ite_t h c1
    cases h
    exact Ke0 (σ) rfl _ _ _ (lv_sub hl [0, 1] rfl) G
  · have h := ite_f h c1
    refine lv_aload_n hx hb dX3_chooses_8 rfl (lv_at hl 0 rfl) ?_
    refine g_getC C0 G in_X3 (ci := 3) rfl (hX.1 _ (xP_l hq0)) (fl := (xFlX3 q0)) ((hX.2.1 _ (xP_l hq0)).trans (xP_s hq0)) 2 (by decide) rfl q334 dX3_chooses_9 ?_
    refine lv_iload_n hx hb dX3_chooses_12 rfl (lv_at hl 2 rfl) ?_
    refine lv_iconst (v := 0) hx hb dX3_chooses_13 (by decide +kernel) ?_
    obtain ⟨b_2, h⟩ := ckB_e h
    refine g_bast C0 G (n := 59049) (hX.1 _ (xP_l3 hq0)) ((hX.2.1 _ (xP_l3 hq0)).trans (xP_s3 hq0)) b_2 dX3_chooses_14 (fun σ3 H locs e_σ3 G => ?_)
    have h := letB_e h e_σ3
    obtain ⟨x4, e_x4⟩ : ∃ z : Int32, z = a2 + 1 := ⟨_, rfl⟩
    have h := letB_e h e_x4
    refine lv_iinc (v := x4) (lv' := [(2, .int x4), (0, .ref (ad q0)), (1, .int a1)]) hx hb dX3_chooses_15 hl (k := 2) rfl ((congrArg (fun z => a2 + z) (show Int32.ofInt 1 = 1 by decide)).trans e_x4.symm) (by decide) rfl (fun ls hl => ?_)
    refine lv_goto (tgt := 2) hx hb dX3_chooses_18 (by decide) ?_
    cases h
    exact Kb x4 (σ3) rfl _ _ _ (lv_sub hl [1, 2, 0] rfl) G
set_option maxHeartbeats 400000 in
theorem lX3_chooses_2 (C0 : Cx ad dc D RX3 cX3_chooses 5 p s m args meth c) (a1 : Int32)  (hX : XOK ks sh) (hq0 : isP q0) : ∀ (n : Nat) (a2 : Int32) (σ : St) (ex : St) (h : iter (fun v : Int32 × St => bX3_chooses_2 q0 a1 v.1 v.2) n (a2, σ) = some ex) (Ke0 : ∀  (σ' : St), ex = σ' → ∀ (H : Heap) (locs : List Loc) (ls : Array Slot), lv_has ls 5 [(0, .ref (ad q0)), (1, .int a1)] → GW sh ks ad dc D A s σ' H locs → W p l e RmX3_chooses s m args below meth c H locs 0 0 Q (F0 m 21 ls [])) (H : Heap) (locs : List Loc) (ls : Array Slot) (hl : lv_has ls 5 [(0, .ref (ad q0)), (1, .int a1), (2, .int a2)]) (G : GW sh ks ad dc D A s σ H locs), W p l e RmX3_chooses s m args below meth c H locs 0 0 Q (F0 m 2 ls []) := by
  intro n
  induction n with
  | zero =>
    intro a2 σ ex h
    cases h
  | succ n ih =>
    intro a2 σ ex h Ke0 H locs ls hl G
    obtain ⟨r, hb1, hr⟩ := iter_e h
    refine wbX3_chooses_2 C0 a1 a2 σ hX hq0 r hb1 ?_ ?_ H locs ls hl G
    · intro b2 σ' hv H locs ls hl G
      subst hv
      rcases hr with hr | ⟨a', hr, h2⟩
      · cases hr
      · rw [← Sum.inr.inj hr] at h2
        exact ih b2 σ' ex h2 Ke0 H locs ls hl G
    · intro σ' hv H locs ls hl G
      subst hv
      rcases hr with hr | ⟨a', hr, h2⟩
      · exact Ke0 σ' (Sum.inl.inj hr).symm H locs ls hl G
      · cases hr
set_option maxHeartbeats 400000 in
theorem wX3_chooses_2 (C0 : Cx ad dc D RX3 cX3_chooses 5 p s m args meth c) (a1 : Int32) (a2 : Int32) (σ : St) (hX : XOK ks sh) (hq0 : isP q0) (o : St) (h : fX3_chooses_2 q0 a1 a2 σ = some o) (Kr : KrV p l e RmX3_chooses s m args below meth c cX3_chooses Q (GW sh ks ad dc D A s o)) (H : Heap) (locs : List Loc) (ls : Array Slot) (hl : lv_has ls 5 [(0, .ref (ad q0)), (1, .int a1), (2, .int a2)]) (G : GW sh ks ad dc D A s σ H locs) : W p l e RmX3_chooses s m args below meth c H locs 0 0 Q (F0 m 2 ls []) := by
  have hx := C0.1
  have hb := C0.2.1
  unfold fX3_chooses_2 at h
  obtain ⟨ex, h1, h⟩ := bn1_e h
  refine lX3_chooses_2 C0 a1  hX hq0 FU a2 σ ex h1 ?_ H locs ls hl G
  · intro σ' hv H locs ls hl G
    rw [hv] at h
    have h : (fX3_chooses_21 q0 a1 (σ')) = some o := h
    exact wX3_chooses_21 C0 a1 (σ') hX hq0 _ h Kr _ _ _ hl G
set_option maxHeartbeats 400000 in
theorem wX3_chooses_0 (C0 : Cx ad dc D RX3 cX3_chooses 5 p s m args meth c) (a1 : Int32) (σ : St) (hX : XOK ks sh) (hq0 : isP q0) (o : St) (h : fX3_chooses q0 a1 σ = some o) (Kr : KrV p l e RmX3_chooses s m args below meth c cX3_chooses Q (GW sh ks ad dc D A s o)) (H : Heap) (locs : List Loc) (ls : Array Slot) (hl : lv_has ls 5 [(0, .ref (ad q0)), (1, .int a1)]) (G : GW sh ks ad dc D A s σ H locs) : W p l e RmX3_chooses s m args below meth c H locs 0 0 Q (F0 m 0 ls []) := by
  have hx := C0.1
  have hb := C0.2.1
  unfold fX3_chooses at h
  refine lv_iconst (v := 0) hx hb dX3_chooses_0 (by decide +kernel) ?_
  refine lv_istore_n (lv' := [(2, .int 0), (0, .ref (ad q0)), (1, .int a1)]) hx hb dX3_chooses_1 rfl hl (by decide) rfl (fun ls hl => ?_)
  exact wX3_chooses_2 C0 a1 0 (σ) hX hq0 _ h Kr _ _ _ (lv_sub hl [1, 2, 0] rfl) G
theorem kX3_chooses {l : Launch} {ad : Nat → Nat} {dc : Nat → ClassId} {D : va_G} {A : Nat → Prop} {q0 : Nat} (hi : ∀ i j, ad i = ad j → i = j) (hn : ks.Nodup) (hA : ∀ k, k ∈ ks → A (ad k)) {σ : St} {a1 : Int32}  {σ' : St} (hX : XOK ks sh) (hq0 : isP q0) (h : fX3_chooses q0 a1 σ = some (σ')) : Met l yX3_chooses (ws_ yX3_chooses cX3_chooses 5 none) RmX3_chooses (gPc sh ks ad dc D σ [.ref (ad q0), .int a1]) (gQv sh ks ad dc D A σ') 0 0 A :=
  g_metV (by decide) rfl hi hn hA (Nat.le_of_ble_eq_true rfl) (fun p e s m below meth c Q C0 Kr ls hl G => wX3_chooses_0 C0 a1 σ hX hq0 (σ') h Kr _ _ ls hl G)
-- X3_walks
abbrev RmX3_walks : Room := { frames := 4, cells := 0, slots := 0, locals := 105 }
theorem hdX3_walks : yX3_walks.cls = RX3 ∧ yX3_walks.cls ≠ "java/lang/invoke/MethodHandle" ∧ yX3_walks.cls ≠ "java/lang/invoke/VarHandle" ∧ (parseMethodDescriptor yX3_walks.desc).map (fun d => d.parameters.length) = some 2 := by decide +kernel
set_option maxHeartbeats 400000 in
theorem wbX3_walks_52 (C0 : Cx ad dc D RX3 cX3_walks 6 p s m args meth c) (a1 : Int32) (a3 : Int32) (a4 : Int32) (σ : St) (hX : XOK ks sh) (hq0 : isP q0) (o : (St) ⊕ (Int32 × St)) (h : bX3_walks_52 q0 a1 a3 a4 σ = some o) (Kb : ∀ (b4 : Int32) (σ' : St), o = .inr (b4, σ') → ∀ (H : Heap) (locs : List Loc) (ls : Array Slot), lv_has ls 6 [(0, .ref (ad q0)), (1, .int a1), (3, .int a3), (4, .int b4)] → GW sh ks ad dc D A s σ' H locs → W p l e RmX3_walks s m args below meth c H locs 0 0 Q (F0 m 52 ls [])) (Ke0 : ∀  (σ' : St), o = .inl (σ') → ∀ (H : Heap) (locs : List Loc) (ls : Array Slot), lv_has ls 6 [(0, .ref (ad q0)), (1, .int a1), (3, .int a3)] → GW sh ks ad dc D A s σ' H locs → W p l e RmX3_walks s m args below meth c H locs 0 0 Q (F0 m 116 ls [])) (H : Heap) (locs : List Loc) (ls : Array Slot) (hl : lv_has ls 6 [(0, .ref (ad q0)), (1, .int a1), (3, .int a3), (4, .int a4)]) (G : GW sh ks ad dc D A s σ H locs) : W p l e RmX3_walks s m args below meth c H locs 0 0 Q (F0 m 52 ls []) := by
  have hx := C0.1
  have hb := C0.2.1
  unfold bX3_walks_52 at h
  refine lv_iload hx hb dX3_walks_52 (lv_at hl 3 rfl) ?_
  refine lv_ldc hx hb C0.2.2.2.1 (C0.2.2.2.2.1 _ q331) dX3_walks_54 ?_
  refine lv_icmp_ge (tgt := 116) hx hb dX3_walks_56 (by decide) (fun c1 => ?_) (fun c1 => ?_)
  · have h := ite_t h c1
    cases h
    exact Ke0 (σ) rfl _ _ _ (lv_sub hl [0, 1, 2] rfl) G
  · have h := ite_f h c1
    refine lv_aload_n hx hb dX3_walks_59 rfl (lv_at hl 0 rfl) ?_
    refine lv_aload_n hx hb dX3_walks_60 rfl (lv_at hl 0 rfl) ?_
    refine g_getC C0 G in_X3 (ci := 3) rfl (hX.1 _ (xP_l hq0)) (fl := (xFlX3 q0)) ((hX.2.1 _ (xP_l hq0)).trans (xP_s hq0)) 2 (by decide) rfl q334 dX3_walks_61 ?_
    refine lv_iload hx hb dX3_walks_64 (lv_at hl 3 rfl) ?_
    refine lv_iload_n hx hb dX3_walks_66 rfl (lv_at hl 2 rfl) ?_
    obtain ⟨r2, h_r2, h⟩ := bn1_e h
    refine g_callVi (rest := []) C0 G hl (ci := 3) rfl (hX.1 _ (xP_l hq0)) (fl := (xFlX3 q0)) ((hX.2.1 _ (xP_l hq0)).trans (xP_s hq0)) (kX3_is_cq3 (l := l) C0.2.2.2.2.2.2.1 G.2.2.1 G.2.2.2 hX hq0 h_r2) (cwV 3 C0.2.2.2.2.1 (lw_V q1364 q1366 qs36 q111 q1367) rfl rfl rfl hdX3_is_cq3 ⟨Nat.le_of_ble_eq_true rfl, Nat.le_of_ble_eq_true rfl⟩) rfl (Nat.le_of_ble_eq_true rfl) dX3_walks_67 ⟨Nat.zero_le _, Nat.zero_le _⟩ (fun H locs G => ?_)
    refine lv_if_eq (tgt := 110) hx hb dX3_walks_70 (by decide) (fun c3 => ?_) (fun c3 => ?_)
    · have h := ite_t h c3
      obtain ⟨x4, e_x4⟩ : ∃ z : Int32, z = a4 + 1 := ⟨_, rfl⟩
      have h := letB_e h e_x4
      refine lv_iinc (v := x4) (lv' := [(4, .int x4), (0, .ref (ad q0)), (1, .int a1), (3, .int a3)]) hx hb dX3_walks_110 hl (k := 3) rfl ((congrArg (fun z => a4 + z) (show Int32.ofInt 1 = 1 by decide)).trans e_x4.symm) (by decide) rfl (fun ls hl => ?_)
      refine lv_goto (tgt := 52) hx hb dX3_walks_113 (by decide) ?_
      cases h
      exact Kb x4 (σ) rfl _ _ _ (lv_sub hl [1, 2, 3, 0] rfl) G
    · have h := ite_f h c3
      refine lv_aload_n hx hb dX3_walks_73 rfl (lv_at hl 0 rfl) ?_
      refine lv_iload hx hb dX3_walks_74 (lv_at hl 3 rfl) ?_
      refine lv_aload_n hx hb dX3_walks_76 rfl (lv_at hl 0 rfl) ?_
      refine g_getC C0 G in_X3 (ci := 3) rfl (hX.1 _ (xP_l hq0)) (fl := (xFlX3 q0)) ((hX.2.1 _ (xP_l hq0)).trans (xP_s hq0)) 8 (by decide) rfl q341 dX3_walks_77 ?_
      refine lv_iload_n hx hb dX3_walks_80 rfl (lv_at hl 2 rfl) ?_
      obtain ⟨b_5, h⟩ := ckB_e h
      refine g_iald C0 G (n := 6) (hX.1 _ (xP_l9 hq0)) ((hX.2.1 _ (xP_l9 hq0)).trans (xP_s9 hq0)) b_5 dX3_walks_81 ?_
      refine lv_aload_n hx hb dX3_walks_82 rfl (lv_at hl 0 rfl) ?_
      refine g_getC C0 G in_X3 (ci := 3) rfl (hX.1 _ (xP_l hq0)) (fl := (xFlX3 q0)) ((hX.2.1 _ (xP_l hq0)).trans (xP_s hq0)) 1 (by decide) rfl q333 dX3_walks_83 ?_
      refine lv_iload_n hx hb dX3_walks_86 rfl (lv_at hl 2 rfl) ?_
      refine lv_iconst (v := 1) hx hb dX3_walks_87 (by decide +kernel) ?_
      refine lv_iadd hx hb dX3_walks_88 ?_
      obtain ⟨r6, σ7, h_r6, h⟩ := bn2_e h
      refine g_callVi (rest := []) C0 G hl (ci := 3) rfl (hX.1 _ (xP_l hq0)) (fl := (xFlX3 q0)) ((hX.2.1 _ (xP_l hq0)).trans (xP_s hq0)) (kX3_leadsTo_cq2 (l := l) C0.2.2.2.2.2.2.1 G.2.2.1 G.2.2.2 hX hq0 h_r6) (cwV 4 C0.2.2.2.2.1 (lw_V q1395 q1397 qs43 q111 q1398) rfl rfl rfl hdX3_leadsTo_cq2 ⟨Nat.le_of_ble_eq_true rfl, Nat.le_of_ble_eq_true rfl⟩) rfl (Nat.le_of_ble_eq_true rfl) dX3_walks_89 ⟨Nat.zero_le _, Nat.zero_le _⟩ (fun H locs G => ?_)
      refine lv_if_eq (tgt := 110) hx hb dX3_walks_92 (by decide) (fun c8 => ?_) (fun c8 => ?_)
      · have h := ite_t h c8
        obtain ⟨x9, e_x9⟩ : ∃ z : Int32, z = a4 + 1 := ⟨_, rfl⟩
        have h := letB_e h e_x9
        refine lv_iinc (v := x9) (lv' := [(4, .int x9), (0, .ref (ad q0)), (1, .int a1), (3, .int a3)]) hx hb dX3_walks_110 hl (k := 3) rfl ((congrArg (fun z => a4 + z) (show Int32.ofInt 1 = 1 by decide)).trans e_x9.symm) (by decide) rfl (fun ls hl => ?_)
        refine lv_goto (tgt := 52) hx hb dX3_walks_113 (by decide) ?_
        cases h
        exact Kb x9 (σ7) rfl _ _ _ (lv_sub hl [1, 2, 3, 0] rfl) G
      · have h := ite_f h c8
        refine lv_aload_n hx hb dX3_walks_95 rfl (lv_at hl 0 rfl) ?_
        refine g_getC C0 G in_X3 (ci := 3) rfl (hX.1 _ (xP_l hq0)) (fl := (xFlX3 q0)) ((hX.2.1 _ (xP_l hq0)).trans (xP_s hq0)) 1 (by decide) rfl q333 dX3_walks_96 ?_
        refine lv_iload hx hb dX3_walks_99 (lv_at hl 3 rfl) ?_
        refine lv_dup2_11 hx hb dX3_walks_101 rfl rfl ?_
        obtain ⟨b_10, h⟩ := ckB_e h
        refine g_bald C0 G (n := 59049) (hX.1 _ (xP_l2 hq0)) ((hX.2.1 _ (xP_l2 hq0)).trans (xP_s2 hq0)) b_10 dX3_walks_102 ?_
        refine lv_iconst (v := 1) hx hb dX3_walks_103 (by decide +kernel) ?_
        refine lv_iload_n hx hb dX3_walks_104 rfl (lv_at hl 2 rfl) ?_
        refine lv_ishl hx hb dX3_walks_105 ?_
        refine lv_i2b hx hb dX3_walks_106 rfl ?_
        refine lv_ior hx hb dX3_walks_107 ?_
        refine lv_i2b hx hb dX3_walks_108 rfl ?_
        obtain ⟨b_11, h⟩ := ckB_e h
        refine g_bast C0 G (n := 59049) (hX.1 _ (xP_l2 hq0)) ((hX.2.1 _ (xP_l2 hq0)).trans (xP_s2 hq0)) b_11 dX3_walks_109 (fun σ12 H locs e_σ12 G => ?_)
        have h := letB_e h e_σ12
        obtain ⟨x13, e_x13⟩ : ∃ z : Int32, z = a4 + 1 := ⟨_, rfl⟩
        have h := letB_e h e_x13
        refine lv_iinc (v := x13) (lv' := [(4, .int x13), (0, .ref (ad q0)), (1, .int a1), (3, .int a3)]) hx hb dX3_walks_110 hl (k := 3) rfl ((congrArg (fun z => a4 + z) (show Int32.ofInt 1 = 1 by decide)).trans e_x13.symm) (by decide) rfl (fun ls hl => ?_)
        refine lv_goto (tgt := 52) hx hb dX3_walks_113 (by decide) ?_
        cases h
        exact Kb x13 (σ12) rfl _ _ _ (lv_sub hl [1, 2, 3, 0] rfl) G
set_option maxHeartbeats 400000 in
theorem lX3_walks_52 (C0 : Cx ad dc D RX3 cX3_walks 6 p s m args meth c) (a1 : Int32) (a3 : Int32)  (hX : XOK ks sh) (hq0 : isP q0) : ∀ (n : Nat) (a4 : Int32) (σ : St) (ex : St) (h : iter (fun v : Int32 × St => bX3_walks_52 q0 a1 a3 v.1 v.2) n (a4, σ) = some ex) (Ke0 : ∀  (σ' : St), ex = σ' → ∀ (H : Heap) (locs : List Loc) (ls : Array Slot), lv_has ls 6 [(0, .ref (ad q0)), (1, .int a1), (3, .int a3)] → GW sh ks ad dc D A s σ' H locs → W p l e RmX3_walks s m args below meth c H locs 0 0 Q (F0 m 116 ls [])) (H : Heap) (locs : List Loc) (ls : Array Slot) (hl : lv_has ls 6 [(0, .ref (ad q0)), (1, .int a1), (3, .int a3), (4, .int a4)]) (G : GW sh ks ad dc D A s σ H locs), W p l e RmX3_walks s m args below meth c H locs 0 0 Q (F0 m 52 ls []) := by
  intro n
  induction n with
  | zero =>
    intro a4 σ ex h
    cases h
  | succ n ih =>
    intro a4 σ ex h Ke0 H locs ls hl G
    obtain ⟨r, hb1, hr⟩ := iter_e h
    refine wbX3_walks_52 C0 a1 a3 a4 σ hX hq0 r hb1 ?_ ?_ H locs ls hl G
    · intro b4 σ' hv H locs ls hl G
      subst hv
      rcases hr with hr | ⟨a', hr, h2⟩
      · cases hr
      · rw [← Sum.inr.inj hr] at h2
        exact ih b4 σ' ex h2 Ke0 H locs ls hl G
    · intro σ' hv H locs ls hl G
      subst hv
      rcases hr with hr | ⟨a', hr, h2⟩
      · exact Ke0 σ' (Sum.inl.inj hr).symm H locs ls hl G
      · cases hr
set_option maxHeartbeats 400000 in
theorem wX3_walks_52 (C0 : Cx ad dc D RX3 cX3_walks 6 p s m args meth c) (a1 : Int32) (a3 : Int32) (a4 : Int32) (σ : St) (hX : XOK ks sh) (hq0 : isP q0) (o : (St) ⊕ (Int32 × St)) (h : fX3_walks_52 q0 a1 a3 a4 σ = some o) (Kb : ∀ (b3 : Int32) (σ' : St), o = .inr (b3, σ') → ∀ (H : Heap) (locs : List Loc) (ls : Array Slot), lv_has ls 6 [(0, .ref (ad q0)), (1, .int a1), (3, .int b3)] → GW sh ks ad dc D A s σ' H locs → W p l e RmX3_walks s m args below meth c H locs 0 0 Q (F0 m 45 ls [])) (Ke0 : ∀  (σ' : St), o = .inl (σ') → ∀ (H : Heap) (locs : List Loc) (ls : Array Slot), lv_has ls 6 [(0, .ref (ad q0)), (1, .int a1)] → GW sh ks ad dc D A s σ' H locs → W p l e RmX3_walks s m args below meth c H locs 0 0 Q (F0 m 122 ls [])) (H : Heap) (locs : List Loc) (ls : Array Slot) (hl : lv_has ls 6 [(0, .ref (ad q0)), (1, .int a1), (3, .int a3), (4, .int a4)]) (G : GW sh ks ad dc D A s σ H locs) : W p l e RmX3_walks s m args below meth c H locs 0 0 Q (F0 m 52 ls []) := by
  have hx := C0.1
  have hb := C0.2.1
  unfold fX3_walks_52 at h
  obtain ⟨ex, h1, h⟩ := bn1_e h
  refine lX3_walks_52 C0 a1 a3  hX hq0 FU a4 σ ex h1 ?_ H locs ls hl G
  · intro σ' hv H locs ls hl G
    rw [hv] at h
    have h : (letB (a3 + (-1)) (fun x1 => some (.inr (x1, σ')))) = some o := h
    obtain ⟨x1, e_x1⟩ : ∃ z : Int32, z = a3 + (-1) := ⟨_, rfl⟩
    have h := letB_e h e_x1
    refine lv_iinc (v := x1) (lv' := [(3, .int x1), (0, .ref (ad q0)), (1, .int a1)]) hx hb dX3_walks_116 hl (k := 2) rfl ((congrArg (fun z => a3 + z) (show Int32.ofInt (-1) = (-1) by decide)).trans e_x1.symm) (by decide) rfl (fun ls hl => ?_)
    refine lv_goto (tgt := 45) hx hb dX3_walks_119 (by decide) ?_
    cases h
    exact Kb x1 (σ') rfl _ _ _ (lv_sub hl [1, 2, 0] rfl) G
set_option maxHeartbeats 400000 in
theorem wX3_walks_212 (C0 : Cx ad dc D RX3 cX3_walks 6 p s m args meth c) (a3 : Int32) (a4 : Int32) (σ : St) (hX : XOK ks sh) (hq0 : isP q0) (o : (St) ⊕ (Int32 × St)) (h : fX3_walks_212 q0 a3 a4 σ = some o) (Kb : ∀ (b3 : Int32) (σ' : St), o = .inr (b3, σ') → ∀ (H : Heap) (locs : List Loc) (ls : Array Slot), lv_has ls 6 [(0, .ref (ad q0)), (3, .int b3)] → GW sh ks ad dc D A s σ' H locs → W p l e RmX3_walks s m args below meth c H locs 0 0 Q (F0 m 131 ls [])) (Ke0 : ∀  (σ' : St), o = .inl (σ') → ∀ (H : Heap) (locs : List Loc) (ls : Array Slot), lv_has ls 6 [] → GW sh ks ad dc D A s σ' H locs → W p l e RmX3_walks s m args below meth c H locs 0 0 Q (F0 m 228 ls [])) (H : Heap) (locs : List Loc) (ls : Array Slot) (hl : lv_has ls 6 [(0, .ref (ad q0)), (3, .int a3), (4, .int a4)]) (G : GW sh ks ad dc D A s σ H locs) : W p l e RmX3_walks s m args below meth c H locs 0 0 Q (F0 m 212 ls []) := by
  have hx := C0.1
  have hb := C0.2.1
  unfold fX3_walks_212 at h
  refine lv_aload_n hx hb dX3_walks_212 rfl (lv_at hl 0 rfl) ?_
  refine g_getC C0 G in_X3 (ci := 3) rfl (hX.1 _ (xP_l hq0)) (fl := (xFlX3 q0)) ((hX.2.1 _ (xP_l hq0)).trans (xP_s hq0)) 9 (by decide) rfl q343 dX3_walks_213 ?_
  refine lv_iload_n hx hb dX3_walks_216 rfl (lv_at hl 1 rfl) ?_
  refine lv_iconst (v := 1) hx hb dX3_walks_217 (by decide +kernel) ?_
  refine lv_iadd hx hb dX3_walks_218 ?_
  refine lv_iload hx hb dX3_walks_219 (lv_at hl 2 rfl) ?_
  obtain ⟨b_1, h⟩ := ckB_e h
  refine g_iast C0 G (n := 7) (hX.1 _ (xP_l10 hq0)) ((hX.2.1 _ (xP_l10 hq0)).trans (xP_s10 hq0)) b_1 dX3_walks_221 (fun σ2 H locs e_σ2 G => ?_)
  have h := letB_e h e_σ2
  obtain ⟨x3, e_x3⟩ : ∃ z : Int32, z = a3 + 1 := ⟨_, rfl⟩
  have h := letB_e h e_x3
  refine lv_iinc (v := x3) (lv' := [(3, .int x3), (0, .ref (ad q0)), (4, .int a4)]) hx hb dX3_walks_222 hl (k := 1) rfl ((congrArg (fun z => a3 + z) (show Int32.ofInt 1 = 1 by decide)).trans e_x3.symm) (by decide) rfl (fun ls hl => ?_)
  refine lv_goto (tgt := 131) hx hb dX3_walks_225 (by decide) ?_
  cases h
  exact Kb x3 (σ2) rfl _ _ _ (lv_sub hl [1, 0] rfl) G
set_option maxHeartbeats 400000 in
theorem wbX3_walks_162 (C0 : Cx ad dc D RX3 cX3_walks 6 p s m args meth c) (a3 : Int32) (a4 : Int32) (a5 : Int32) (σ : St) (hX : XOK ks sh) (hq0 : isP q0) (o : (Int32) ⊕ (Int32 × Int32)) (h : bX3_walks_162 q0 a3 a4 a5 σ = some o) (Kb : ∀ (b4 : Int32) (b5 : Int32), o = .inr (b4, b5) → ∀ (H : Heap) (locs : List Loc) (ls : Array Slot), lv_has ls 6 [(0, .ref (ad q0)), (3, .int a3), (4, .int b4), (5, .int b5)] → GW sh ks ad dc D A s σ H locs → W p l e RmX3_walks s m args below meth c H locs 0 0 Q (F0 m 162 ls [])) (Ke0 : ∀ (b4 : Int32), o = .inl b4 → ∀ (H : Heap) (locs : List Loc) (ls : Array Slot), lv_has ls 6 [(0, .ref (ad q0)), (3, .int a3), (4, .int b4)] → GW sh ks ad dc D A s σ H locs → W p l e RmX3_walks s m args below meth c H locs 0 0 Q (F0 m 212 ls [])) (H : Heap) (locs : List Loc) (ls : Array Slot) (hl : lv_has ls 6 [(0, .ref (ad q0)), (3, .int a3), (4, .int a4), (5, .int a5)]) (G : GW sh ks ad dc D A s σ H locs) : W p l e RmX3_walks s m args below meth c H locs 0 0 Q (F0 m 162 ls []) := by
  have hx := C0.1
  have hb := C0.2.1
  unfold bX3_walks_162 at h
  refine lv_iload hx hb dX3_walks_162 (lv_at hl 3 rfl) ?_
  refine lv_aload_n hx hb dX3_walks_164 rfl (lv_at hl 0 rfl) ?_
  refine g_getI C0 G in_X3 (ci := 3) rfl (hX.1 _ (xP_l hq0)) (fl := (xFlX3 q0)) ((hX.2.1 _ (xP_l hq0)).trans (xP_s hq0)) 12 (by decide) rfl q347 dX3_walks_165 ?_
  refine lv_icmp_ge (tgt := 212) hx hb dX3_walks_168 (by decide) (fun c1 => ?_) (fun c1 => ?_)
  · have h := ite_t h c1
    cases h
    exact Ke0 a4 rfl _ _ _ (lv_sub hl [0, 1, 2] rfl) G
  · have h := ite_f h c1
    refine lv_aload_n hx hb dX3_walks_171 rfl (lv_at hl 0 rfl) ?_
    refine lv_aload_n hx hb dX3_walks_172 rfl (lv_at hl 0 rfl) ?_
    refine g_getC C0 G in_X3 (ci := 3) rfl (hX.1 _ (xP_l hq0)) (fl := (xFlX3 q0)) ((hX.2.1 _ (xP_l hq0)).trans (xP_s hq0)) 1 (by decide) rfl q333 dX3_walks_173 ?_
    refine lv_aload_n hx hb dX3_walks_176 rfl (lv_at hl 0 rfl) ?_
    refine g_getC C0 G in_X3 (ci := 3) rfl (hX.1 _ (xP_l hq0)) (fl := (xFlX3 q0)) ((hX.2.1 _ (xP_l hq0)).trans (xP_s hq0)) 4 (by decide) rfl q336 dX3_walks_177 ?_
    refine lv_iload hx hb dX3_walks_180 (lv_at hl 3 rfl) ?_
    obtain ⟨b_2, h⟩ := ckB_e h
    refine g_iald C0 G (n := 59049) (hX.1 _ (xP_l5 hq0)) ((hX.2.1 _ (xP_l5 hq0)).trans (xP_s5 hq0)) b_2 dX3_walks_182 ?_
    refine lv_iload_n hx hb dX3_walks_183 rfl (lv_at hl 1 rfl) ?_
    refine lv_iconst (v := 1) hx hb dX3_walks_184 (by decide +kernel) ?_
    refine lv_iadd hx hb dX3_walks_185 ?_
    obtain ⟨r3, h_r3, h⟩ := bn1_e h
    refine g_callVi (rest := []) C0 G hl (ci := 3) rfl (hX.1 _ (xP_l hq0)) (fl := (xFlX3 q0)) ((hX.2.1 _ (xP_l hq0)).trans (xP_s hq0)) (kX3_is_cq2 (l := l) C0.2.2.2.2.2.2.1 G.2.2.1 G.2.2.2 hX hq0 h_r3) (cwV 3 C0.2.2.2.2.1 (lw_V q1364 q1366 qs36 q111 q1367) rfl rfl rfl hdX3_is_cq2 ⟨Nat.le_of_ble_eq_true rfl, Nat.le_of_ble_eq_true rfl⟩) rfl (Nat.le_of_ble_eq_true rfl) dX3_walks_186 ⟨Nat.zero_le _, Nat.zero_le _⟩ (fun H locs G => ?_)
    refine lv_if_eq (tgt := 206) hx hb dX3_walks_189 (by decide) (fun c4 => ?_) (fun c4 => ?_)
    · have h := ite_t h c4
      obtain ⟨x5, e_x5⟩ : ∃ z : Int32, z = a5 + 1 := ⟨_, rfl⟩
      have h := letB_e h e_x5
      refine lv_iinc (v := x5) (lv' := [(5, .int x5), (0, .ref (ad q0)), (3, .int a3), (4, .int a4)]) hx hb dX3_walks_206 hl (k := 3) rfl ((congrArg (fun z => a5 + z) (show Int32.ofInt 1 = 1 by decide)).trans e_x5.symm) (by decide) rfl (fun ls hl => ?_)
      refine lv_goto (tgt := 162) hx hb dX3_walks_209 (by decide) ?_
      cases h
      exact Kb a4 x5 rfl _ _ _ (lv_sub hl [1, 2, 3, 0] rfl) G
    · have h := ite_f h c4
      refine lv_iload hx hb dX3_walks_192 (lv_at hl 2 rfl) ?_
      refine lv_aload_n hx hb dX3_walks_194 rfl (lv_at hl 0 rfl) ?_
      refine g_getC C0 G in_X3 (ci := 3) rfl (hX.1 _ (xP_l hq0)) (fl := (xFlX3 q0)) ((hX.2.1 _ (xP_l hq0)).trans (xP_s hq0)) 4 (by decide) rfl q336 dX3_walks_195 ?_
      refine lv_iload hx hb dX3_walks_198 (lv_at hl 3 rfl) ?_
      obtain ⟨b_6, h⟩ := ckB_e h
      refine g_iald C0 G (n := 59049) (hX.1 _ (xP_l5 hq0)) ((hX.2.1 _ (xP_l5 hq0)).trans (xP_s5 hq0)) b_6 dX3_walks_200 ?_
      refine va_mmin hx hb (C0.2.2.1.trans hl.1.symm) C0.2.2.2.1 (C0.2.2.2.2.1 _ q1382) (C0.2.2.2.2.1 _ q575) (C0.2.2.2.2.1 _ q145) (C0.2.2.2.2.1 _ q576) (Nat.le_of_ble_eq_true rfl) (Nat.le_of_ble_eq_true rfl) (Nat.zero_le _) (Nat.zero_le _) dX3_walks_201 ?_
      refine lv_topi (fun x7 e_x7 => ?_)
      have h := letB_e h e_x7
      refine lv_istore (lv' := [(4, .int x7), (0, .ref (ad q0)), (3, .int a3), (5, .int a5)]) hx hb dX3_walks_204 hl (by decide) rfl (fun ls hl => ?_)
      obtain ⟨x8, e_x8⟩ : ∃ z : Int32, z = a5 + 1 := ⟨_, rfl⟩
      have h := letB_e h e_x8
      refine lv_iinc (v := x8) (lv' := [(5, .int x8), (4, .int x7), (0, .ref (ad q0)), (3, .int a3)]) hx hb dX3_walks_206 hl (k := 3) rfl ((congrArg (fun z => a5 + z) (show Int32.ofInt 1 = 1 by decide)).trans e_x8.symm) (by decide) rfl (fun ls hl => ?_)
      refine lv_goto (tgt := 162) hx hb dX3_walks_209 (by decide) ?_
      cases h
      exact Kb x7 x8 rfl _ _ _ (lv_sub hl [2, 3, 1, 0] rfl) G
set_option maxHeartbeats 400000 in
theorem lX3_walks_162 (C0 : Cx ad dc D RX3 cX3_walks 6 p s m args meth c) (a3 : Int32) (σ : St) (hX : XOK ks sh) (hq0 : isP q0) : ∀ (n : Nat) (a4 : Int32) (a5 : Int32) (ex : Int32) (h : iter (fun v : Int32 × Int32 => bX3_walks_162 q0 a3 v.1 v.2 σ) n (a4, a5) = some ex) (Ke0 : ∀ (b4 : Int32), ex = b4 → ∀ (H : Heap) (locs : List Loc) (ls : Array Slot), lv_has ls 6 [(0, .ref (ad q0)), (3, .int a3), (4, .int b4)] → GW sh ks ad dc D A s σ H locs → W p l e RmX3_walks s m args below meth c H locs 0 0 Q (F0 m 212 ls [])) (H : Heap) (locs : List Loc) (ls : Array Slot) (hl : lv_has ls 6 [(0, .ref (ad q0)), (3, .int a3), (4, .int a4), (5, .int a5)]) (G : GW sh ks ad dc D A s σ H locs), W p l e RmX3_walks s m args below meth c H locs 0 0 Q (F0 m 162 ls []) := by
  intro n
  induction n with
  | zero =>
    intro a4 a5 ex h
    cases h
  | succ n ih =>
    intro a4 a5 ex h Ke0 H locs ls hl G
    obtain ⟨r, hb1, hr⟩ := iter_e h
    refine wbX3_walks_162 C0 a3 a4 a5 σ hX hq0 r hb1 ?_ ?_ H locs ls hl G
    · intro b4 b5 hv H locs ls hl G
      subst hv
      rcases hr with hr | ⟨a', hr, h2⟩
      · cases hr
      · rw [← Sum.inr.inj hr] at h2
        exact ih b4 b5 ex h2 Ke0 H locs ls hl G
    · intro b4 hv H locs ls hl G
      subst hv
      rcases hr with hr | ⟨a', hr, h2⟩
      · exact Ke0 b4 (Sum.inl.inj hr).symm H locs ls hl G
      · cases hr
set_option maxHeartbeats 400000 in
theorem wX3_walks_162 (C0 : Cx ad dc D RX3 cX3_walks 6 p s m args meth c) (a3 : Int32) (a4 : Int32) (a5 : Int32) (σ : St) (hX : XOK ks sh) (hq0 : isP q0) (o : (St) ⊕ (Int32 × St)) (h : fX3_walks_162 q0 a3 a4 a5 σ = some o) (Kb : ∀ (b3 : Int32) (σ' : St), o = .inr (b3, σ') → ∀ (H : Heap) (locs : List Loc) (ls : Array Slot), lv_has ls 6 [(0, .ref (ad q0)), (3, .int b3)] → GW sh ks ad dc D A s σ' H locs → W p l e RmX3_walks s m args below meth c H locs 0 0 Q (F0 m 131 ls [])) (Ke0 : ∀  (σ' : St), o = .inl (σ') → ∀ (H : Heap) (locs : List Loc) (ls : Array Slot), lv_has ls 6 [] → GW sh ks ad dc D A s σ' H locs → W p l e RmX3_walks s m args below meth c H locs 0 0 Q (F0 m 228 ls [])) (H : Heap) (locs : List Loc) (ls : Array Slot) (hl : lv_has ls 6 [(0, .ref (ad q0)), (3, .int a3), (4, .int a4), (5, .int a5)]) (G : GW sh ks ad dc D A s σ H locs) : W p l e RmX3_walks s m args below meth c H locs 0 0 Q (F0 m 162 ls []) := by
  have hx := C0.1
  have hb := C0.2.1
  unfold fX3_walks_162 at h
  obtain ⟨ex, h1, h⟩ := bn1_e h
  refine lX3_walks_162 C0 a3 σ hX hq0 FU a4 a5 ex h1 ?_ H locs ls hl G
  · intro b4 hv H locs ls hl G
    rw [hv] at h
    have h : (fX3_walks_212 q0 a3 b4 (σ)) = some o := h
    exact wX3_walks_212 C0 a3 b4 (σ) hX hq0 _ h Kb Ke0 _ _ _ hl G
set_option maxHeartbeats 400000 in
theorem wbX3_walks_131 (C0 : Cx ad dc D RX3 cX3_walks 6 p s m args meth c) (a3 : Int32) (σ : St) (hX : XOK ks sh) (hq0 : isP q0) (o : (St) ⊕ (Int32 × St)) (h : bX3_walks_131 q0 a3 σ = some o) (Kb : ∀ (b3 : Int32) (σ' : St), o = .inr (b3, σ') → ∀ (H : Heap) (locs : List Loc) (ls : Array Slot), lv_has ls 6 [(0, .ref (ad q0)), (3, .int b3)] → GW sh ks ad dc D A s σ' H locs → W p l e RmX3_walks s m args below meth c H locs 0 0 Q (F0 m 131 ls [])) (Ke0 : ∀  (σ' : St), o = .inl (σ') → ∀ (H : Heap) (locs : List Loc) (ls : Array Slot), lv_has ls 6 [] → GW sh ks ad dc D A s σ' H locs → W p l e RmX3_walks s m args below meth c H locs 0 0 Q (F0 m 228 ls [])) (H : Heap) (locs : List Loc) (ls : Array Slot) (hl : lv_has ls 6 [(0, .ref (ad q0)), (3, .int a3)]) (G : GW sh ks ad dc D A s σ H locs) : W p l e RmX3_walks s m args below meth c H locs 0 0 Q (F0 m 131 ls []) := by
  have hx := C0.1
  have hb := C0.2.1
  unfold bX3_walks_131 at h
  refine lv_iload_n hx hb dX3_walks_131 rfl (lv_at hl 1 rfl) ?_
  refine lv_aload_n hx hb dX3_walks_132 rfl (lv_at hl 0 rfl) ?_
  refine g_getI C0 G in_X3 (ci := 3) rfl (hX.1 _ (xP_l hq0)) (fl := (xFlX3 q0)) ((hX.2.1 _ (xP_l hq0)).trans (xP_s hq0)) 15 (by decide) rfl q350 dX3_walks_133 ?_
  refine lv_icmp_ge (tgt := 228) hx hb dX3_walks_136 (by decide) (fun c1 => ?_) (fun c1 => ?_)
  · have h := ite_t h c1
    cases h
    exact Ke0 (σ) rfl _ _ _ (lv_sub hl [] rfl) G
  · have h := ite_f h c1
    refine lv_aload_n hx hb dX3_walks_139 rfl (lv_at hl 0 rfl) ?_
    refine lv_aload_n hx hb dX3_walks_140 rfl (lv_at hl 0 rfl) ?_
    refine g_getC C0 G in_X3 (ci := 3) rfl (hX.1 _ (xP_l hq0)) (fl := (xFlX3 q0)) ((hX.2.1 _ (xP_l hq0)).trans (xP_s hq0)) 9 (by decide) rfl q343 dX3_walks_141 ?_
    refine lv_iload_n hx hb dX3_walks_144 rfl (lv_at hl 1 rfl) ?_
    obtain ⟨b_2, h⟩ := ckB_e h
    refine g_iald C0 G (n := 7) (hX.1 _ (xP_l10 hq0)) ((hX.2.1 _ (xP_l10 hq0)).trans (xP_s10 hq0)) b_2 dX3_walks_145 ?_
    refine lv_aload_n hx hb dX3_walks_146 rfl (lv_at hl 0 rfl) ?_
    refine g_getC C0 G in_X3 (ci := 3) rfl (hX.1 _ (xP_l hq0)) (fl := (xFlX3 q0)) ((hX.2.1 _ (xP_l hq0)).trans (xP_s hq0)) 8 (by decide) rfl q341 dX3_walks_147 ?_
    refine lv_iload_n hx hb dX3_walks_150 rfl (lv_at hl 1 rfl) ?_
    obtain ⟨b_3, h⟩ := ckB_e h
    refine g_iald C0 G (n := 6) (hX.1 _ (xP_l9 hq0)) ((hX.2.1 _ (xP_l9 hq0)).trans (xP_s9 hq0)) b_3 dX3_walks_151 ?_
    obtain ⟨σ5, h_r4, h⟩ := bn1_e h
    refine g_callVv (rest := []) C0 G hl (ci := 3) rfl (hX.1 _ (xP_l hq0)) (fl := (xFlX3 q0)) ((hX.2.1 _ (xP_l hq0)).trans (xP_s hq0)) (kX3_leads (l := l) C0.2.2.2.2.2.2.1 G.2.2.1 G.2.2.2 hX hq0 h_r4) (cwV 2 C0.2.2.2.2.1 (lw_V q1368 q1370 qs37 q111 q1371) rfl rfl rfl hdX3_leads ⟨Nat.le_of_ble_eq_true rfl, Nat.le_of_ble_eq_true rfl⟩) rfl (Nat.le_of_ble_eq_true rfl) dX3_walks_152 ⟨Nat.zero_le _, Nat.zero_le _⟩ (fun H locs G => ?_)
    refine lv_ldc hx hb C0.2.2.2.1 (C0.2.2.2.2.1 _ q1411) dX3_walks_155 ?_
    refine lv_istore (lv' := [(4, .int 1000000), (0, .ref (ad q0)), (3, .int a3)]) hx hb dX3_walks_157 hl (by decide) rfl (fun ls hl => ?_)
    refine lv_iconst (v := 0) hx hb dX3_walks_159 (by decide +kernel) ?_
    refine lv_istore (lv' := [(5, .int 0), (4, .int 1000000), (0, .ref (ad q0)), (3, .int a3)]) hx hb dX3_walks_160 hl (by decide) rfl (fun ls hl => ?_)
    exact wX3_walks_162 C0 a3 1000000 0 (σ5) hX hq0 _ h Kb Ke0 _ _ _ (lv_sub hl [2, 3, 1, 0] rfl) G
set_option maxHeartbeats 400000 in
theorem lX3_walks_131 (C0 : Cx ad dc D RX3 cX3_walks 6 p s m args meth c)   (hX : XOK ks sh) (hq0 : isP q0) : ∀ (n : Nat) (a3 : Int32) (σ : St) (ex : St) (h : iter (fun v : Int32 × St => bX3_walks_131 q0 v.1 v.2) n (a3, σ) = some ex) (Ke0 : ∀  (σ' : St), ex = σ' → ∀ (H : Heap) (locs : List Loc) (ls : Array Slot), lv_has ls 6 [] → GW sh ks ad dc D A s σ' H locs → W p l e RmX3_walks s m args below meth c H locs 0 0 Q (F0 m 228 ls [])) (H : Heap) (locs : List Loc) (ls : Array Slot) (hl : lv_has ls 6 [(0, .ref (ad q0)), (3, .int a3)]) (G : GW sh ks ad dc D A s σ H locs), W p l e RmX3_walks s m args below meth c H locs 0 0 Q (F0 m 131 ls []) := by
  intro n
  induction n with
  | zero =>
    intro a3 σ ex h
    cases h
  | succ n ih =>
    intro a3 σ ex h Ke0 H locs ls hl G
    obtain ⟨r, hb1, hr⟩ := iter_e h
    refine wbX3_walks_131 C0 a3 σ hX hq0 r hb1 ?_ ?_ H locs ls hl G
    · intro b3 σ' hv H locs ls hl G
      subst hv
      rcases hr with hr | ⟨a', hr, h2⟩
      · cases hr
      · rw [← Sum.inr.inj hr] at h2
        exact ih b3 σ' ex h2 Ke0 H locs ls hl G
    · intro σ' hv H locs ls hl G
      subst hv
      rcases hr with hr | ⟨a', hr, h2⟩
      · exact Ke0 σ' (Sum.inl.inj hr).symm H locs ls hl G
      · cases hr
set_option maxHeartbeats 400000 in
theorem wX3_walks_131 (C0 : Cx ad dc D RX3 cX3_walks 6 p s m args meth c) (a3 : Int32) (σ : St) (hX : XOK ks sh) (hq0 : isP q0) (o : St) (h : fX3_walks_131 q0 a3 σ = some o) (Kr : KrV p l e RmX3_walks s m args below meth c cX3_walks Q (GW sh ks ad dc D A s o)) (H : Heap) (locs : List Loc) (ls : Array Slot) (hl : lv_has ls 6 [(0, .ref (ad q0)), (3, .int a3)]) (G : GW sh ks ad dc D A s σ H locs) : W p l e RmX3_walks s m args below meth c H locs 0 0 Q (F0 m 131 ls []) := by
  have hx := C0.1
  have hb := C0.2.1
  unfold fX3_walks_131 at h
  obtain ⟨ex, h1, h⟩ := bn1_e h
  refine lX3_walks_131 C0   hX hq0 FU a3 σ ex h1 ?_ H locs ls hl G
  · intro σ' hv H locs ls hl G
    rw [hv] at h
    have h : (some σ') = some o := h
    cases h
    exact Kr _ _ _ _ dX3_walks_228 G
set_option maxHeartbeats 400000 in
theorem wX3_walks_122 (C0 : Cx ad dc D RX3 cX3_walks 6 p s m args meth c) (a1 : Int32) (σ : St) (hX : XOK ks sh) (hq0 : isP q0) (o : St) (h : fX3_walks_122 q0 a1 σ = some o) (Kr : KrV p l e RmX3_walks s m args below meth c cX3_walks Q (GW sh ks ad dc D A s o)) (H : Heap) (locs : List Loc) (ls : Array Slot) (hl : lv_has ls 6 [(0, .ref (ad q0)), (1, .int a1)]) (G : GW sh ks ad dc D A s σ H locs) : W p l e RmX3_walks s m args below meth c H locs 0 0 Q (F0 m 122 ls []) := by
  have hx := C0.1
  have hb := C0.2.1
  unfold fX3_walks_122 at h
  refine lv_aload_n hx hb dX3_walks_122 rfl (lv_at hl 0 rfl) ?_
  refine g_getC C0 G in_X3 (ci := 3) rfl (hX.1 _ (xP_l hq0)) (fl := (xFlX3 q0)) ((hX.2.1 _ (xP_l hq0)).trans (xP_s hq0)) 9 (by decide) rfl q343 dX3_walks_123 ?_
  refine lv_iconst (v := 0) hx hb dX3_walks_126 (by decide +kernel) ?_
  refine lv_iload_n hx hb dX3_walks_127 rfl (lv_at hl 1 rfl) ?_
  obtain ⟨b_1, h⟩ := ckB_e h
  refine g_iast C0 G (n := 7) (hX.1 _ (xP_l10 hq0)) ((hX.2.1 _ (xP_l10 hq0)).trans (xP_s10 hq0)) b_1 dX3_walks_128 (fun σ2 H locs e_σ2 G => ?_)
  have h := letB_e h e_σ2
  refine lv_iconst (v := 0) hx hb dX3_walks_129 (by decide +kernel) ?_
  refine lv_istore_n (lv' := [(3, .int 0), (0, .ref (ad q0)), (1, .int a1)]) hx hb dX3_walks_130 rfl hl (by decide) rfl (fun ls hl => ?_)
  exact wX3_walks_131 C0 0 (σ2) hX hq0 _ h Kr _ _ _ (lv_sub hl [1, 0] rfl) G
set_option maxHeartbeats 400000 in
theorem wbX3_walks_45 (C0 : Cx ad dc D RX3 cX3_walks 6 p s m args meth c) (a1 : Int32) (a3 : Int32) (σ : St) (hX : XOK ks sh) (hq0 : isP q0) (o : (St) ⊕ (Int32 × St)) (h : bX3_walks_45 q0 a1 a3 σ = some o) (Kb : ∀ (b3 : Int32) (σ' : St), o = .inr (b3, σ') → ∀ (H : Heap) (locs : List Loc) (ls : Array Slot), lv_has ls 6 [(0, .ref (ad q0)), (1, .int a1), (3, .int b3)] → GW sh ks ad dc D A s σ' H locs → W p l e RmX3_walks s m args below meth c H locs 0 0 Q (F0 m 45 ls [])) (Ke0 : ∀  (σ' : St), o = .inl (σ') → ∀ (H : Heap) (locs : List Loc) (ls : Array Slot), lv_has ls 6 [(0, .ref (ad q0)), (1, .int a1)] → GW sh ks ad dc D A s σ' H locs → W p l e RmX3_walks s m args below meth c H locs 0 0 Q (F0 m 122 ls [])) (H : Heap) (locs : List Loc) (ls : Array Slot) (hl : lv_has ls 6 [(0, .ref (ad q0)), (1, .int a1), (3, .int a3)]) (G : GW sh ks ad dc D A s σ H locs) : W p l e RmX3_walks s m args below meth c H locs 0 0 Q (F0 m 45 ls []) := by
  have hx := C0.1
  have hb := C0.2.1
  unfold bX3_walks_45 at h
  refine lv_iload_n hx hb dX3_walks_45 rfl (lv_at hl 2 rfl) ?_
  refine lv_if_lt (tgt := 122) hx hb dX3_walks_46 (by decide) (fun c1 => ?_) (fun c1 => ?_)
  · have h := ite_t h c1
    cases h
    exact Ke0 (σ) rfl _ _ _ (lv_sub hl [0, 1] rfl) G
  · have h := ite_f h c1
    refine lv_iconst (v := 0) hx hb dX3_walks_49 (by decide +kernel) ?_
    refine lv_istore (lv' := [(4, .int 0), (0, .ref (ad q0)), (1, .int a1), (3, .int a3)]) hx hb dX3_walks_50 hl (by decide) rfl (fun ls hl => ?_)
    exact wX3_walks_52 C0 a1 a3 0 (σ) hX hq0 _ h Kb Ke0 _ _ _ (lv_sub hl [1, 2, 3, 0] rfl) G
set_option maxHeartbeats 400000 in
theorem lX3_walks_45 (C0 : Cx ad dc D RX3 cX3_walks 6 p s m args meth c) (a1 : Int32)  (hX : XOK ks sh) (hq0 : isP q0) : ∀ (n : Nat) (a3 : Int32) (σ : St) (ex : St) (h : iter (fun v : Int32 × St => bX3_walks_45 q0 a1 v.1 v.2) n (a3, σ) = some ex) (Ke0 : ∀  (σ' : St), ex = σ' → ∀ (H : Heap) (locs : List Loc) (ls : Array Slot), lv_has ls 6 [(0, .ref (ad q0)), (1, .int a1)] → GW sh ks ad dc D A s σ' H locs → W p l e RmX3_walks s m args below meth c H locs 0 0 Q (F0 m 122 ls [])) (H : Heap) (locs : List Loc) (ls : Array Slot) (hl : lv_has ls 6 [(0, .ref (ad q0)), (1, .int a1), (3, .int a3)]) (G : GW sh ks ad dc D A s σ H locs), W p l e RmX3_walks s m args below meth c H locs 0 0 Q (F0 m 45 ls []) := by
  intro n
  induction n with
  | zero =>
    intro a3 σ ex h
    cases h
  | succ n ih =>
    intro a3 σ ex h Ke0 H locs ls hl G
    obtain ⟨r, hb1, hr⟩ := iter_e h
    refine wbX3_walks_45 C0 a1 a3 σ hX hq0 r hb1 ?_ ?_ H locs ls hl G
    · intro b3 σ' hv H locs ls hl G
      subst hv
      rcases hr with hr | ⟨a', hr, h2⟩
      · cases hr
      · rw [← Sum.inr.inj hr] at h2
        exact ih b3 σ' ex h2 Ke0 H locs ls hl G
    · intro σ' hv H locs ls hl G
      subst hv
      rcases hr with hr | ⟨a', hr, h2⟩
      · exact Ke0 σ' (Sum.inl.inj hr).symm H locs ls hl G
      · cases hr
set_option maxHeartbeats 400000 in
theorem wX3_walks_45 (C0 : Cx ad dc D RX3 cX3_walks 6 p s m args meth c) (a1 : Int32) (a3 : Int32) (σ : St) (hX : XOK ks sh) (hq0 : isP q0) (o : St) (h : fX3_walks_45 q0 a1 a3 σ = some o) (Kr : KrV p l e RmX3_walks s m args below meth c cX3_walks Q (GW sh ks ad dc D A s o)) (H : Heap) (locs : List Loc) (ls : Array Slot) (hl : lv_has ls 6 [(0, .ref (ad q0)), (1, .int a1), (3, .int a3)]) (G : GW sh ks ad dc D A s σ H locs) : W p l e RmX3_walks s m args below meth c H locs 0 0 Q (F0 m 45 ls []) := by
  have hx := C0.1
  have hb := C0.2.1
  unfold fX3_walks_45 at h
  obtain ⟨ex, h1, h⟩ := bn1_e h
  refine lX3_walks_45 C0 a1  hX hq0 FU a3 σ ex h1 ?_ H locs ls hl G
  · intro σ' hv H locs ls hl G
    rw [hv] at h
    have h : (fX3_walks_122 q0 a1 (σ')) = some o := h
    exact wX3_walks_122 C0 a1 (σ') hX hq0 _ h Kr _ _ _ hl G
set_option maxHeartbeats 400000 in
theorem wX3_walks_21 (C0 : Cx ad dc D RX3 cX3_walks 6 p s m args meth c) (a1 : Int32) (a2 : Int32) (σ : St) (hX : XOK ks sh) (hq0 : isP q0) (o : St) (h : fX3_walks_21 q0 a1 a2 σ = some o) (Kr : KrV p l e RmX3_walks s m args below meth c cX3_walks Q (GW sh ks ad dc D A s o)) (H : Heap) (locs : List Loc) (ls : Array Slot) (hl : lv_has ls 6 [(0, .ref (ad q0)), (1, .int a1), (2, .int a2)]) (G : GW sh ks ad dc D A s σ H locs) : W p l e RmX3_walks s m args below meth c H locs 0 0 Q (F0 m 21 ls []) := by
  have hx := C0.1
  have hb := C0.2.1
  unfold fX3_walks_21 at h
  refine lv_aload_n hx hb dX3_walks_21 rfl (lv_at hl 0 rfl) ?_
  refine g_getC C0 G in_X3 (ci := 3) rfl (hX.1 _ (xP_l hq0)) (fl := (xFlX3 q0)) ((hX.2.1 _ (xP_l hq0)).trans (xP_s hq0)) 1 (by decide) rfl q333 dX3_walks_22 ?_
  refine lv_iload_n hx hb dX3_walks_25 rfl (lv_at hl 2 rfl) ?_
  refine lv_dup2_11 hx hb dX3_walks_26 rfl rfl ?_
  obtain ⟨b_1, h⟩ := ckB_e h
  refine g_bald C0 G (n := 59049) (hX.1 _ (xP_l2 hq0)) ((hX.2.1 _ (xP_l2 hq0)).trans (xP_s2 hq0)) b_1 dX3_walks_27 ?_
  refine lv_iconst (v := 1) hx hb dX3_walks_28 (by decide +kernel) ?_
  refine lv_aload_n hx hb dX3_walks_29 rfl (lv_at hl 0 rfl) ?_
  refine g_getI C0 G in_X3 (ci := 3) rfl (hX.1 _ (xP_l hq0)) (fl := (xFlX3 q0)) ((hX.2.1 _ (xP_l hq0)).trans (xP_s hq0)) 15 (by decide) rfl q350 dX3_walks_30 ?_
  refine lv_ishl hx hb dX3_walks_33 ?_
  refine lv_i2b hx hb dX3_walks_34 rfl ?_
  refine lv_ior hx hb dX3_walks_35 ?_
  refine lv_i2b hx hb dX3_walks_36 rfl ?_
  obtain ⟨b_2, h⟩ := ckB_e h
  refine g_bast C0 G (n := 59049) (hX.1 _ (xP_l2 hq0)) ((hX.2.1 _ (xP_l2 hq0)).trans (xP_s2 hq0)) b_2 dX3_walks_37 (fun σ3 H locs e_σ3 G => ?_)
  have h := letB_e h e_σ3
  refine lv_aload_n hx hb dX3_walks_38 rfl (lv_at hl 0 rfl) ?_
  refine g_getI C0 G in_X3 (ci := 3) rfl (hX.1 _ (xP_l hq0)) (fl := (xFlX3 q0)) ((hX.2.1 _ (xP_l hq0)).trans (xP_s hq0)) 15 (by decide) rfl q350 dX3_walks_39 ?_
  refine lv_iconst (v := 1) hx hb dX3_walks_42 (by decide +kernel) ?_
  refine lv_isub hx hb dX3_walks_43 ?_
  refine lv_topi (fun x4 e_x4 => ?_)
  have h := letB_e h e_x4
  refine lv_istore_n (lv' := [(3, .int x4), (0, .ref (ad q0)), (1, .int a1), (2, .int a2)]) hx hb dX3_walks_44 rfl hl (by decide) rfl (fun ls hl => ?_)
  exact wX3_walks_45 C0 a1 x4 (σ3) hX hq0 _ h Kr _ _ _ (lv_sub hl [1, 2, 0] rfl) G
set_option maxHeartbeats 400000 in
theorem wbX3_walks_2 (C0 : Cx ad dc D RX3 cX3_walks 6 p s m args meth c) (a1 : Int32) (a2 : Int32) (a3 : Int32) (σ : St) (hX : XOK ks sh) (hq0 : isP q0) (o : (St) ⊕ (Int32 × St)) (h : bX3_walks_2 q0 a1 a2 a3 σ = some o) (Kb : ∀ (b3 : Int32) (σ' : St), o = .inr (b3, σ') → ∀ (H : Heap) (locs : List Loc) (ls : Array Slot), lv_has ls 6 [(0, .ref (ad q0)), (1, .int a1), (2, .int a2), (3, .int b3)] → GW sh ks ad dc D A s σ' H locs → W p l e RmX3_walks s m args below meth c H locs 0 0 Q (F0 m 2 ls [])) (Ke0 : ∀  (σ' : St), o = .inl (σ') → ∀ (H : Heap) (locs : List Loc) (ls : Array Slot), lv_has ls 6 [(0, .ref (ad q0)), (1, .int a1), (2, .int a2)] → GW sh ks ad dc D A s σ' H locs → W p l e RmX3_walks s m args below meth c H locs 0 0 Q (F0 m 21 ls [])) (H : Heap) (locs : List Loc) (ls : Array Slot) (hl : lv_has ls 6 [(0, .ref (ad q0)), (1, .int a1), (2, .int a2), (3, .int a3)]) (G : GW sh ks ad dc D A s σ H locs) : W p l e RmX3_walks s m args below meth c H locs 0 0 Q (F0 m 2 ls []) := by
  have hx := C0.1
  have hb := C0.2.1
  unfold bX3_walks_2 at h
  refine lv_iload_n hx hb dX3_walks_2 rfl (lv_at hl 3 rfl) ?_
  refine lv_ldc hx hb C0.2.2.2.1 (C0.2.2.2.2.1 _ q331) dX3_walks_3 ?_
  refine lv_icmp_ge (tgt := 21) hx hb dX3_walks_5 (by decide) (fun c1 => ?_) (fun c1 => ?_)
  · have h := ite_t h c1
    cases h
    exact Ke0 (σ) rfl _ _ _ (lv_sub hl [0, 1, 2] rfl) G
  · have h := ite_f h c1
    refine lv_aload_n hx hb dX3_walks_8 rfl (lv_at hl 0 rfl) ?_
    refine g_getC C0 G in_X3 (ci := 3) rfl (hX.1 _ (xP_l hq0)) (fl := (xFlX3 q0)) ((hX.2.1 _ (xP_l hq0)).trans (xP_s hq0)) 1 (by decide) rfl q333 dX3_walks_9 ?_
    refine lv_iload_n hx hb dX3_walks_12 rfl (lv_at hl 3 rfl) ?_
    refine lv_iconst (v := 0) hx hb dX3_walks_13 (by decide +kernel) ?_
    obtain ⟨b_2, h⟩ := ckB_e h
    refine g_bast C0 G (n := 59049) (hX.1 _ (xP_l2 hq0)) ((hX.2.1 _ (xP_l2 hq0)).trans (xP_s2 hq0)) b_2 dX3_walks_14 (fun σ3 H locs e_σ3 G => ?_)
    have h := letB_e h e_σ3
    obtain ⟨x4, e_x4⟩ : ∃ z : Int32, z = a3 + 1 := ⟨_, rfl⟩
    have h := letB_e h e_x4
    refine lv_iinc (v := x4) (lv' := [(3, .int x4), (0, .ref (ad q0)), (1, .int a1), (2, .int a2)]) hx hb dX3_walks_15 hl (k := 3) rfl ((congrArg (fun z => a3 + z) (show Int32.ofInt 1 = 1 by decide)).trans e_x4.symm) (by decide) rfl (fun ls hl => ?_)
    refine lv_goto (tgt := 2) hx hb dX3_walks_18 (by decide) ?_
    cases h
    exact Kb x4 (σ3) rfl _ _ _ (lv_sub hl [1, 2, 3, 0] rfl) G
set_option maxHeartbeats 400000 in
theorem lX3_walks_2 (C0 : Cx ad dc D RX3 cX3_walks 6 p s m args meth c) (a1 : Int32) (a2 : Int32)  (hX : XOK ks sh) (hq0 : isP q0) : ∀ (n : Nat) (a3 : Int32) (σ : St) (ex : St) (h : iter (fun v : Int32 × St => bX3_walks_2 q0 a1 a2 v.1 v.2) n (a3, σ) = some ex) (Ke0 : ∀  (σ' : St), ex = σ' → ∀ (H : Heap) (locs : List Loc) (ls : Array Slot), lv_has ls 6 [(0, .ref (ad q0)), (1, .int a1), (2, .int a2)] → GW sh ks ad dc D A s σ' H locs → W p l e RmX3_walks s m args below meth c H locs 0 0 Q (F0 m 21 ls [])) (H : Heap) (locs : List Loc) (ls : Array Slot) (hl : lv_has ls 6 [(0, .ref (ad q0)), (1, .int a1), (2, .int a2), (3, .int a3)]) (G : GW sh ks ad dc D A s σ H locs), W p l e RmX3_walks s m args below meth c H locs 0 0 Q (F0 m 2 ls []) := by
  intro n
  induction n with
  | zero =>
    intro a3 σ ex h
    cases h
  | succ n ih =>
    intro a3 σ ex h Ke0 H locs ls hl G
    obtain ⟨r, hb1, hr⟩ := iter_e h
    refine wbX3_walks_2 C0 a1 a2 a3 σ hX hq0 r hb1 ?_ ?_ H locs ls hl G
    · intro b3 σ' hv H locs ls hl G
      subst hv
      rcases hr with hr | ⟨a', hr, h2⟩
      · cases hr
      · rw [← Sum.inr.inj hr] at h2
        exact ih b3 σ' ex h2 Ke0 H locs ls hl G
    · intro σ' hv H locs ls hl G
      subst hv
      rcases hr with hr | ⟨a', hr, h2⟩
      · exact Ke0 σ' (Sum.inl.inj hr).symm H locs ls hl G
      · cases hr
set_option maxHeartbeats 400000 in
theorem wX3_walks_2 (C0 : Cx ad dc D RX3 cX3_walks 6 p s m args meth c) (a1 : Int32) (a2 : Int32) (a3 : Int32) (σ : St) (hX : XOK ks sh) (hq0 : isP q0) (o : St) (h : fX3_walks_2 q0 a1 a2 a3 σ = some o) (Kr : KrV p l e RmX3_walks s m args below meth c cX3_walks Q (GW sh ks ad dc D A s o)) (H : Heap) (locs : List Loc) (ls : Array Slot) (hl : lv_has ls 6 [(0, .ref (ad q0)), (1, .int a1), (2, .int a2), (3, .int a3)]) (G : GW sh ks ad dc D A s σ H locs) : W p l e RmX3_walks s m args below meth c H locs 0 0 Q (F0 m 2 ls []) := by
  have hx := C0.1
  have hb := C0.2.1
  unfold fX3_walks_2 at h
  obtain ⟨ex, h1, h⟩ := bn1_e h
  refine lX3_walks_2 C0 a1 a2  hX hq0 FU a3 σ ex h1 ?_ H locs ls hl G
  · intro σ' hv H locs ls hl G
    rw [hv] at h
    have h : (fX3_walks_21 q0 a1 a2 (σ')) = some o := h
    exact wX3_walks_21 C0 a1 a2 (σ') hX hq0 _ h Kr _ _ _ hl G
set_option maxHeartbeats 400000 in
theorem wX3_walks_0 (C0 : Cx ad dc D RX3 cX3_walks 6 p s m args meth c) (a1 : Int32) (a2 : Int32) (σ : St) (hX : XOK ks sh) (hq0 : isP q0) (o : St) (h : fX3_walks q0 a1 a2 σ = some o) (Kr : KrV p l e RmX3_walks s m args below meth c cX3_walks Q (GW sh ks ad dc D A s o)) (H : Heap) (locs : List Loc) (ls : Array Slot) (hl : lv_has ls 6 [(0, .ref (ad q0)), (1, .int a1), (2, .int a2)]) (G : GW sh ks ad dc D A s σ H locs) : W p l e RmX3_walks s m args below meth c H locs 0 0 Q (F0 m 0 ls []) := by
  have hx := C0.1
  have hb := C0.2.1
  unfold fX3_walks at h
  refine lv_iconst (v := 0) hx hb dX3_walks_0 (by decide +kernel) ?_
  refine lv_istore_n (lv' := [(3, .int 0), (0, .ref (ad q0)), (1, .int a1), (2, .int a2)]) hx hb dX3_walks_1 rfl hl (by decide) rfl (fun ls hl => ?_)
  exact wX3_walks_2 C0 a1 a2 0 (σ) hX hq0 _ h Kr _ _ _ (lv_sub hl [1, 2, 3, 0] rfl) G
theorem kX3_walks {l : Launch} {ad : Nat → Nat} {dc : Nat → ClassId} {D : va_G} {A : Nat → Prop} {q0 : Nat} (hi : ∀ i j, ad i = ad j → i = j) (hn : ks.Nodup) (hA : ∀ k, k ∈ ks → A (ad k)) {σ : St} {a1 : Int32} {a2 : Int32}  {σ' : St} (hX : XOK ks sh) (hq0 : isP q0) (h : fX3_walks q0 a1 a2 σ = some (σ')) : Met l yX3_walks (ws_ yX3_walks cX3_walks 6 none) RmX3_walks (gPc sh ks ad dc D σ [.ref (ad q0), .int a1, .int a2]) (gQv sh ks ad dc D A σ') 0 0 A :=
  g_metV (by decide) rfl hi hn hA (Nat.le_of_ble_eq_true rfl) (fun p e s m below meth c Q C0 Kr ls hl G => wX3_walks_0 C0 a1 a2 σ hX hq0 (σ') h Kr _ _ ls hl G)
-- X3_looks
abbrev RmX3_looks : Room := { frames := 5, cells := 0, slots := 0, locals := 130 }
theorem hdX3_looks : yX3_looks.cls = RX3 ∧ yX3_looks.cls ≠ "java/lang/invoke/MethodHandle" ∧ yX3_looks.cls ≠ "java/lang/invoke/VarHandle" ∧ (parseMethodDescriptor yX3_looks.desc).map (fun d => d.parameters.length) = some 0 := by decide +kernel
set_option maxHeartbeats 400000 in
theorem wX3_looks_0 (C0 : Cx ad dc D RX3 cX3_looks 3 p s m args meth c) (σ : St) (hX : XOK ks sh) (hq0 : isP q0) (o : St) (h : fX3_looks q0 σ = some o) (Kr : KrV p l e RmX3_looks s m args below meth c cX3_looks Q (GW sh ks ad dc D A s o)) (H : Heap) (locs : List Loc) (ls : Array Slot) (hl : lv_has ls 3 [(0, .ref (ad q0))]) (G : GW sh ks ad dc D A s σ H locs) : W p l e RmX3_looks s m args below meth c H locs 0 0 Q (F0 m 0 ls []) := by
  have hx := C0.1
  have hb := C0.2.1
  unfold fX3_looks at h
  refine lv_aload_n hx hb dX3_looks_0 rfl (lv_at hl 0 rfl) ?_
  refine g_getI C0 G in_X3 (ci := 3) rfl (hX.1 _ (xP_l hq0)) (fl := (xFlX3 q0)) ((hX.2.1 _ (xP_l hq0)).trans (xP_s hq0)) 14 (by decide) rfl q349 dX3_looks_1 ?_
  refine lv_aload_n hx hb dX3_looks_4 rfl (lv_at hl 0 rfl) ?_
  refine g_getC C0 G in_X3 (ci := 3) rfl (hX.1 _ (xP_l hq0)) (fl := (xFlX3 q0)) ((hX.2.1 _ (xP_l hq0)).trans (xP_s hq0)) 17 (by decide) rfl q353 dX3_looks_5 ?_
  refine g_getIN C0 G in_X0 (ci := 0) rfl (hX.1 0 (by decide)) (fl := xFlX0) ((hX.2.1 0 (by decide)).trans rfl) 7 (by decide) rfl (xn_of C0.2.2.2.2.2.2.2.1 q446 rfl) dX3_looks_8 ?_
  refine lv_icmp_ne (tgt := 15) hx hb dX3_looks_11 (by decide) (fun c1 => ?_) (fun c1 => ?_)
  · have h := ite_f h c1
    refine lv_aload_n hx hb dX3_looks_15 rfl (lv_at hl 0 rfl) ?_
    refine lv_aload_n hx hb dX3_looks_16 rfl (lv_at hl 0 rfl) ?_
    refine g_getC C0 G in_X3 (ci := 3) rfl (hX.1 _ (xP_l hq0)) (fl := (xFlX3 q0)) ((hX.2.1 _ (xP_l hq0)).trans (xP_s hq0)) 17 (by decide) rfl q353 dX3_looks_17 ?_
    refine g_getIN C0 G in_X0 (ci := 0) rfl (hX.1 0 (by decide)) (fl := xFlX0) ((hX.2.1 0 (by decide)).trans rfl) 7 (by decide) rfl (xn_of C0.2.2.2.2.2.2.2.1 q446 rfl) dX3_looks_20 ?_
    refine g_putI C0 G in_X3 tyX3_ok nmX3 (ci := 3) rfl (hX.1 _ (xP_l hq0)) (fl := (xFlX3 q0)) ((hX.2.1 _ (xP_l hq0)).trans (xP_s hq0)) 14 (by decide) rfl q349 rfl dX3_looks_23 ⟨rfl, rfl⟩ (fun σ2 H locs e_σ2 G => ?_)
    have h := letB_e h e_σ2
    refine lv_aload_n hx hb dX3_looks_26 rfl (lv_at hl 0 rfl) ?_
    refine lv_aload_n hx hb dX3_looks_27 rfl (lv_at hl 0 rfl) ?_
    refine lv_aload_n hx hb dX3_looks_28 rfl (lv_at hl 0 rfl) ?_
    refine g_getC C0 G in_X3 (ci := 3) rfl (hX.1 _ (xP_l hq0)) (fl := (xFlX3 q0)) ((hX.2.1 _ (xP_l hq0)).trans (xP_s hq0)) 17 (by decide) rfl q353 dX3_looks_29 ?_
    refine g_getCN C0 G in_X0 (ci := 0) rfl (hX.1 0 (by decide)) (fl := xFlX0) ((hX.2.1 0 (by decide)).trans rfl) 2 (by decide) rfl (xn_of C0.2.2.2.2.2.2.2.1 q440 rfl) dX3_looks_32 ?_
    refine g_getCN C0 G in_X1 (ci := 1) rfl (hX.1 2 (by decide)) (fl := xFlX1) ((hX.2.1 2 (by decide)).trans rfl) 0 (by decide) rfl (xn_of C0.2.2.2.2.2.2.2.1 q194 rfl) dX3_looks_35 ?_
    refine lv_iconst (v := 0) hx hb dX3_looks_38 (by decide +kernel) ?_
    obtain ⟨r3, σ4, h_r3, h⟩ := bn2_e h
    refine g_callVi (rest := [.ref (ad q0)]) C0 G hl (ci := 3) rfl (hX.1 _ (xP_l hq0)) (fl := (xFlX3 q0)) ((hX.2.1 _ (xP_l hq0)).trans (xP_s hq0)) (kX3_fewest_c3 (l := l) C0.2.2.2.2.2.2.1 G.2.2.1 G.2.2.2 hX hq0 h_r3) (cwV 2 C0.2.2.2.2.1 (lw_V q1343 q1344 q1345 q111 q1346) rfl rfl rfl hdX3_fewest_c3 ⟨Nat.le_of_ble_eq_true rfl, Nat.le_of_ble_eq_true rfl⟩) rfl (Nat.le_of_ble_eq_true rfl) dX3_looks_39 ⟨Nat.zero_le _, Nat.zero_le _⟩ (fun H locs G => ?_)
    refine g_putI C0 G in_X3 tyX3_ok nmX3 (ci := 3) rfl (hX.1 _ (xP_l hq0)) (fl := (xFlX3 q0)) ((hX.2.1 _ (xP_l hq0)).trans (xP_s hq0)) 15 (by decide) rfl q350 rfl dX3_looks_42 ⟨rfl, rfl⟩ (fun σ5 H locs e_σ5 G => ?_)
    have h := letB_e h e_σ5
    refine lv_aload_n hx hb dX3_looks_45 rfl (lv_at hl 0 rfl) ?_
    refine g_getI C0 G in_X3 (ci := 3) rfl (hX.1 _ (xP_l hq0)) (fl := (xFlX3 q0)) ((hX.2.1 _ (xP_l hq0)).trans (xP_s hq0)) 15 (by decide) rfl q350 dX3_looks_46 ?_
    refine lv_iconst (v := 1) hx hb dX3_looks_49 (by decide +kernel) ?_
    refine lv_icmp_ge (tgt := 54) hx hb dX3_looks_50 (by decide) (fun c6 => ?_) (fun c6 => ?_)
    · have h := ite_t h c6
      refine lv_aload_n hx hb dX3_looks_54 rfl (lv_at hl 0 rfl) ?_
      refine lv_aload_n hx hb dX3_looks_55 rfl (lv_at hl 0 rfl) ?_
      refine g_getC C0 G in_X3 (ci := 3) rfl (hX.1 _ (xP_l hq0)) (fl := (xFlX3 q0)) ((hX.2.1 _ (xP_l hq0)).trans (xP_s hq0)) 17 (by decide) rfl q353 dX3_looks_56 ?_
      refine g_getCN C0 G in_X0 (ci := 0) rfl (hX.1 0 (by decide)) (fl := xFlX0) ((hX.2.1 0 (by decide)).trans rfl) 2 (by decide) rfl (xn_of C0.2.2.2.2.2.2.2.1 q440 rfl) dX3_looks_59 ?_
      refine g_getCN C0 G in_X1 (ci := 1) rfl (hX.1 2 (by decide)) (fl := xFlX1) ((hX.2.1 2 (by decide)).trans rfl) 0 (by decide) rfl (xn_of C0.2.2.2.2.2.2.2.1 q194 rfl) dX3_looks_62 ?_
      obtain ⟨r7, h_r7, h⟩ := bn1_e h
      refine g_callVi (rest := []) C0 G hl (ci := 3) rfl (hX.1 _ (xP_l hq0)) (fl := (xFlX3 q0)) ((hX.2.1 _ (xP_l hq0)).trans (xP_s hq0)) (kX3_rowOf_c3 (l := l) C0.2.2.2.2.2.2.1 G.2.2.1 G.2.2.2 hX hq0 h_r7) (cwV 1 C0.2.2.2.2.1 (lw_V q1356 q1357 q1358 q111 q1359) rfl rfl rfl hdX3_rowOf_c3 ⟨Nat.le_of_ble_eq_true rfl, Nat.le_of_ble_eq_true rfl⟩) rfl (Nat.le_of_ble_eq_true rfl) dX3_looks_65 ⟨Nat.zero_le _, Nat.zero_le _⟩ (fun H locs G => ?_)
      refine lv_istore_n (lv' := [(1, .int r7), (0, .ref (ad q0))]) hx hb dX3_looks_68 rfl hl (by decide) rfl (fun ls hl => ?_)
      refine lv_aload_n hx hb dX3_looks_69 rfl (lv_at hl 1 rfl) ?_
      refine lv_aload_n hx hb dX3_looks_70 rfl (lv_at hl 1 rfl) ?_
      refine g_getC C0 G in_X3 (ci := 3) rfl (hX.1 _ (xP_l hq0)) (fl := (xFlX3 q0)) ((hX.2.1 _ (xP_l hq0)).trans (xP_s hq0)) 17 (by decide) rfl q353 dX3_looks_71 ?_
      refine g_getCN C0 G in_X0 (ci := 0) rfl (hX.1 0 (by decide)) (fl := xFlX0) ((hX.2.1 0 (by decide)).trans rfl) 2 (by decide) rfl (xn_of C0.2.2.2.2.2.2.2.1 q440 rfl) dX3_looks_74 ?_
      refine g_getCN C0 G in_X1 (ci := 1) rfl (hX.1 2 (by decide)) (fl := xFlX1) ((hX.2.1 2 (by decide)).trans rfl) 1 (by decide) rfl (xn_of C0.2.2.2.2.2.2.2.1 q197 rfl) dX3_looks_77 ?_
      obtain ⟨r8, h_r8, h⟩ := bn1_e h
      refine g_callVi (rest := []) C0 G hl (ci := 3) rfl (hX.1 _ (xP_l hq0)) (fl := (xFlX3 q0)) ((hX.2.1 _ (xP_l hq0)).trans (xP_s hq0)) (kX3_rowOf_c4 (l := l) C0.2.2.2.2.2.2.1 G.2.2.1 G.2.2.2 hX hq0 h_r8) (cwV 1 C0.2.2.2.2.1 (lw_V q1356 q1357 q1358 q111 q1359) rfl rfl rfl hdX3_rowOf_c4 ⟨Nat.le_of_ble_eq_true rfl, Nat.le_of_ble_eq_true rfl⟩) rfl (Nat.le_of_ble_eq_true rfl) dX3_looks_80 ⟨Nat.zero_le _, Nat.zero_le _⟩ (fun H locs G => ?_)
      refine lv_istore_n (lv' := [(2, .int r8), (1, .int r7), (0, .ref (ad q0))]) hx hb dX3_looks_83 rfl hl (by decide) rfl (fun ls hl => ?_)
      refine lv_aload_n hx hb dX3_looks_84 rfl (lv_at hl 2 rfl) ?_
      refine lv_iload_n hx hb dX3_looks_85 rfl (lv_at hl 0 rfl) ?_
      obtain ⟨σ10, h_r9, h⟩ := bn1_e h
      refine g_callVv (rest := []) C0 G hl (ci := 3) rfl (hX.1 _ (xP_l hq0)) (fl := (xFlX3 q0)) ((hX.2.1 _ (xP_l hq0)).trans (xP_s hq0)) (kX3_marks (l := l) C0.2.2.2.2.2.2.1 G.2.2.1 G.2.2.2 hX hq0 h_r9) (cwV 1 C0.2.2.2.2.1 (lw_V q1391 q1393 qs42 q111 q1394) rfl rfl rfl hdX3_marks ⟨Nat.le_of_ble_eq_true rfl, Nat.le_of_ble_eq_true rfl⟩) rfl (Nat.le_of_ble_eq_true rfl) dX3_looks_86 ⟨Nat.zero_le _, Nat.zero_le _⟩ (fun H locs G => ?_)
      refine lv_aload_n hx hb dX3_looks_89 rfl (lv_at hl 2 rfl) ?_
      refine lv_iload_n hx hb dX3_looks_90 rfl (lv_at hl 1 rfl) ?_
      obtain ⟨σ12, h_r11, h⟩ := bn1_e h
      refine g_callVv (rest := []) C0 G hl (ci := 3) rfl (hX.1 _ (xP_l hq0)) (fl := (xFlX3 q0)) ((hX.2.1 _ (xP_l hq0)).trans (xP_s hq0)) (kX3_chooses (l := l) C0.2.2.2.2.2.2.1 G.2.2.1 G.2.2.2 hX hq0 h_r11) (cwV 1 C0.2.2.2.2.1 (lw_V q1399 q1401 qs44 q111 q1402) rfl rfl rfl hdX3_chooses ⟨Nat.le_of_ble_eq_true rfl, Nat.le_of_ble_eq_true rfl⟩) rfl (Nat.le_of_ble_eq_true rfl) dX3_looks_91 ⟨Nat.zero_le _, Nat.zero_le _⟩ (fun H locs G => ?_)
      refine lv_aload_n hx hb dX3_looks_94 rfl (lv_at hl 2 rfl) ?_
      refine lv_iload_n hx hb dX3_looks_95 rfl (lv_at hl 1 rfl) ?_
      refine lv_iload_n hx hb dX3_looks_96 rfl (lv_at hl 0 rfl) ?_
      obtain ⟨σ14, h_r13, h⟩ := bn1_e h
      refine g_callVv (rest := []) C0 G hl (ci := 3) rfl (hX.1 _ (xP_l hq0)) (fl := (xFlX3 q0)) ((hX.2.1 _ (xP_l hq0)).trans (xP_s hq0)) (kX3_walks (l := l) C0.2.2.2.2.2.2.1 G.2.2.1 G.2.2.2 hX hq0 h_r13) (cwV 2 C0.2.2.2.2.1 (lw_V q1407 q1409 qs46 q111 q1410) rfl rfl rfl hdX3_walks ⟨Nat.le_of_ble_eq_true rfl, Nat.le_of_ble_eq_true rfl⟩) rfl (Nat.le_of_ble_eq_true rfl) dX3_looks_97 ⟨Nat.zero_le _, Nat.zero_le _⟩ (fun H locs G => ?_)
      cases h
      exact Kr _ _ _ _ dX3_looks_100 G
    · have h := ite_f h c6
      cases h
      exact Kr _ _ _ _ dX3_looks_53 G
  · have h := ite_t h c1
    cases h
    exact Kr _ _ _ _ dX3_looks_14 G
theorem kX3_looks {l : Launch} {ad : Nat → Nat} {dc : Nat → ClassId} {D : va_G} {A : Nat → Prop} {q0 : Nat} (hi : ∀ i j, ad i = ad j → i = j) (hn : ks.Nodup) (hA : ∀ k, k ∈ ks → A (ad k)) {σ : St}   {σ' : St} (hX : XOK ks sh) (hq0 : isP q0) (h : fX3_looks q0 σ = some (σ')) : Met l yX3_looks (ws_ yX3_looks cX3_looks 3 none) RmX3_looks (gPc sh ks ad dc D σ [.ref (ad q0)]) (gQv sh ks ad dc D A σ') 0 0 A :=
  g_metV (by decide) rfl hi hn hA (Nat.le_of_ble_eq_true rfl) (fun p e s m below meth c Q C0 Kr ls hl G => wX3_looks_0 C0  σ hX hq0 (σ') h Kr _ _ ls hl G)
-- X0_heats
abbrev RmX0_heats : Room := { frames := 6, cells := 0, slots := 0, locals := 152 }
theorem hdX0_heats : yX0_heats.cls = RX0 ∧ yX0_heats.cls ≠ "java/lang/invoke/MethodHandle" ∧ yX0_heats.cls ≠ "java/lang/invoke/VarHandle" ∧ (parseMethodDescriptor yX0_heats.desc).map (fun d => d.parameters.length) = some 0 := by decide +kernel
set_option maxHeartbeats 400000 in
theorem wX0_heats_0 (C0 : Cx ad dc D RX0 cX0_heats 1 p s m args meth c) (σ : St) (hX : XOK ks sh) (o : Int32 × St) (h : fX0_heats σ = some o) (Kr : KrI p l e RmX0_heats s m args below meth c cX0_heats Q (GW sh ks ad dc D A s (o.2)) o.1) (H : Heap) (locs : List Loc) (ls : Array Slot) (hl : lv_has ls 1 [(0, .ref (ad 0))]) (G : GW sh ks ad dc D A s σ H locs) : W p l e RmX0_heats s m args below meth c H locs 0 0 Q (F0 m 0 ls []) := by
  have hx := C0.1
  have hb := C0.2.1
  unfold fX0_heats at h
  refine lv_aload_n hx hb dX0_heats_0 rfl (lv_at hl 0 rfl) ?_
  refine g_getC C0 G in_X0 (ci := 0) rfl (hX.1 0 (by decide)) (fl := xFlX0) ((hX.2.1 0 (by decide)).trans rfl) 12 (by decide) rfl q451 dX0_heats_1 ?_
  obtain ⟨σ2, h_r1, h⟩ := bn1_e h
  refine g_callVv (rest := []) C0 G hl (ci := 3) rfl (hX.1 24 (by decide)) (fl := (xFlX3 24)) ((hX.2.1 24 (by decide)).trans rfl) (kX3_looks (l := l) C0.2.2.2.2.2.2.1 G.2.2.1 G.2.2.2 hX isP_24 h_r1) (cwV 0 C0.2.2.2.2.1 (lw_V q1339 q1340 q1341 q111 q1342) rfl rfl rfl hdX3_looks ⟨Nat.le_of_ble_eq_true rfl, Nat.le_of_ble_eq_true rfl⟩) rfl (Nat.le_of_ble_eq_true rfl) dX0_heats_4 ⟨Nat.zero_le _, Nat.zero_le _⟩ (fun H locs G => ?_)
  refine lv_aload_n hx hb dX0_heats_7 rfl (lv_at hl 0 rfl) ?_
  refine g_getC C0 G in_X0 (ci := 0) rfl (hX.1 0 (by decide)) (fl := xFlX0) ((hX.2.1 0 (by decide)).trans rfl) 12 (by decide) rfl q451 dX0_heats_8 ?_
  refine g_getIN C0 G in_X3 (ci := 3) rfl (hX.1 24 (by decide)) (fl := (xFlX3 24)) ((hX.2.1 24 (by decide)).trans rfl) 15 (by decide) rfl (xn_of C0.2.2.2.2.2.2.2.1 q351 rfl) dX0_heats_11 ?_
  cases h
  exact Kr _ _ _ _ dX0_heats_14 G
theorem kX0_heats {l : Launch} {ad : Nat → Nat} {dc : Nat → ClassId} {D : va_G} {A : Nat → Prop}  (hi : ∀ i j, ad i = ad j → i = j) (hn : ks.Nodup) (hA : ∀ k, k ∈ ks → A (ad k)) {σ : St}  {r : Int32} {σ' : St} (hX : XOK ks sh) (h : fX0_heats σ = some (r, σ')) : Met l yX0_heats (ws_ yX0_heats cX0_heats 1 (some .int)) RmX0_heats (gPc sh ks ad dc D σ [.ref (ad 0)]) (gQi sh ks ad dc D A σ' r) 0 0 A :=
  g_metI (by decide) rfl hi hn hA (Nat.le_of_ble_eq_true rfl) (fun p e s m below meth c Q C0 Kr ls hl G => wX0_heats_0 C0  σ hX (r, σ') h Kr _ _ ls hl G)
-- X0_plan
abbrev RmX0_plan : Room := { frames := 6, cells := 0, slots := 0, locals := 152 }
theorem hdX0_plan : yX0_plan.cls = RX0 ∧ yX0_plan.cls ≠ "java/lang/invoke/MethodHandle" ∧ yX0_plan.cls ≠ "java/lang/invoke/VarHandle" ∧ (parseMethodDescriptor yX0_plan.desc).map (fun d => d.parameters.length) = some 2 := by decide +kernel
set_option maxHeartbeats 400000 in
theorem wX0_plan_39 (C0 : Cx ad dc D RX0 cX0_plan 3 p s m args meth c) (a1 : Int32) (a2 : Int32) (σ : St) (hX : XOK ks sh) (o : Int32 × St) (h : fX0_plan_39 a1 a2 σ = some o) (Kr : KrI p l e RmX0_plan s m args below meth c cX0_plan Q (GW sh ks ad dc D A s (o.2)) o.1) (H : Heap) (locs : List Loc) (ls : Array Slot) (hl : lv_has ls 3 [(0, .ref (ad 0)), (1, .int a1), (2, .int a2)]) (G : GW sh ks ad dc D A s σ H locs) : W p l e RmX0_plan s m args below meth c H locs 0 0 Q (F0 m 39 ls []) := by
  have hx := C0.1
  have hb := C0.2.1
  unfold fX0_plan_39 at h
  refine lv_iload_n hx hb dX0_plan_39 rfl (lv_at hl 2 rfl) ?_
  refine lv_iconst (v := (-1)) hx hb dX0_plan_40 (by decide +kernel) ?_
  refine lv_icmp_ne (tgt := 56) hx hb dX0_plan_41 (by decide) (fun c1 => ?_) (fun c1 => ?_)
  · have h := ite_f h c1
    refine lv_aload_n hx hb dX0_plan_56 rfl (lv_at hl 0 rfl) ?_
    refine g_getC C0 G in_X0 (ci := 0) rfl (hX.1 0 (by decide)) (fl := xFlX0) ((hX.2.1 0 (by decide)).trans rfl) 12 (by decide) rfl q451 dX0_plan_57 ?_
    refine lv_aload_n hx hb dX0_plan_60 rfl (lv_at hl 0 rfl) ?_
    refine g_getC C0 G in_X0 (ci := 0) rfl (hX.1 0 (by decide)) (fl := xFlX0) ((hX.2.1 0 (by decide)).trans rfl) 12 (by decide) rfl q451 dX0_plan_61 ?_
    refine g_getCN C0 G in_X3 (ci := 3) rfl (hX.1 24 (by decide)) (fl := (xFlX3 24)) ((hX.2.1 24 (by decide)).trans rfl) 9 (by decide) rfl (xn_of C0.2.2.2.2.2.2.2.1 q344 rfl) dX0_plan_64 ?_
    refine lv_iload_n hx hb dX0_plan_67 rfl (lv_at hl 1 rfl) ?_
    refine lv_iconst (v := 1) hx hb dX0_plan_68 (by decide +kernel) ?_
    refine lv_iadd hx hb dX0_plan_69 ?_
    obtain ⟨b_2, h⟩ := ckB_e h
    refine g_iald C0 G (n := 7) (hX.1 34 (by decide)) ((hX.2.1 34 (by decide)).trans rfl) b_2 dX0_plan_70 ?_
    refine lv_iload_n hx hb dX0_plan_71 rfl (lv_at hl 2 rfl) ?_
    obtain ⟨r3, h_r3, h⟩ := bn1_e h
    refine g_callVNi (rest := []) C0 G hl (ci := 3) rfl (hX.1 24 (by decide)) (fl := (xFlX3 24)) ((hX.2.1 24 (by decide)).trans rfl) (kX3_ironAt (l := l) C0.2.2.2.2.2.2.1 G.2.2.1 G.2.2.2 hX isP_24 h_r3) ⟨va_cnB 2 C0.2.2.2.2.1 (lw_meth q1376) rfl rfl rfl (xn_of C0.2.2.2.2.2.2.2.1 q1416 rfl) (C0.2.2.2.2.1 _ q111) hdX3_ironAt.2 ⟨Nat.le_of_ble_eq_true rfl, Nat.le_of_ble_eq_true rfl⟩, C0.2.2.2.2.1 _ q1375, C0.2.2.2.2.1 _ qs38⟩ rfl (Nat.le_of_ble_eq_true rfl) dX0_plan_72 ⟨Nat.zero_le _, Nat.zero_le _⟩ (fun H locs G => ?_)
    cases h
    exact Kr _ _ _ _ dX0_plan_75 G
  · have h := ite_t h c1
    refine lv_aload_n hx hb dX0_plan_44 rfl (lv_at hl 0 rfl) ?_
    refine g_getC C0 G in_X0 (ci := 0) rfl (hX.1 0 (by decide)) (fl := xFlX0) ((hX.2.1 0 (by decide)).trans rfl) 12 (by decide) rfl q451 dX0_plan_45 ?_
    refine g_getCN C0 G in_X3 (ci := 3) rfl (hX.1 24 (by decide)) (fl := (xFlX3 24)) ((hX.2.1 24 (by decide)).trans rfl) 8 (by decide) rfl (xn_of C0.2.2.2.2.2.2.2.1 q342 rfl) dX0_plan_48 ?_
    refine lv_iload_n hx hb dX0_plan_51 rfl (lv_at hl 1 rfl) ?_
    obtain ⟨b_4, h⟩ := ckB_e h
    refine g_iald C0 G (n := 6) (hX.1 33 (by decide)) ((hX.2.1 33 (by decide)).trans rfl) b_4 dX0_plan_52 ?_
    refine lv_goto (tgt := 75) hx hb dX0_plan_53 (by decide) ?_
    cases h
    exact Kr _ _ _ _ dX0_plan_75 G
set_option maxHeartbeats 400000 in
theorem wX0_plan_0 (C0 : Cx ad dc D RX0 cX0_plan 3 p s m args meth c) (a1 : Int32) (a2 : Int32) (σ : St) (hX : XOK ks sh) (o : Int32 × St) (h : fX0_plan a1 a2 σ = some o) (Kr : KrI p l e RmX0_plan s m args below meth c cX0_plan Q (GW sh ks ad dc D A s (o.2)) o.1) (H : Heap) (locs : List Loc) (ls : Array Slot) (hl : lv_has ls 3 [(0, .ref (ad 0)), (1, .int a1), (2, .int a2)]) (G : GW sh ks ad dc D A s σ H locs) : W p l e RmX0_plan s m args below meth c H locs 0 0 Q (F0 m 0 ls []) := by
  have hx := C0.1
  have hb := C0.2.1
  unfold fX0_plan at h
  refine lv_aload_n hx hb dX0_plan_0 rfl (lv_at hl 0 rfl) ?_
  refine g_getC C0 G in_X0 (ci := 0) rfl (hX.1 0 (by decide)) (fl := xFlX0) ((hX.2.1 0 (by decide)).trans rfl) 12 (by decide) rfl q451 dX0_plan_1 ?_
  obtain ⟨σ2, h_r1, h⟩ := bn1_e h
  refine g_callVv (rest := []) C0 G hl (ci := 3) rfl (hX.1 24 (by decide)) (fl := (xFlX3 24)) ((hX.2.1 24 (by decide)).trans rfl) (kX3_looks (l := l) C0.2.2.2.2.2.2.1 G.2.2.1 G.2.2.2 hX isP_24 h_r1) (cwV 0 C0.2.2.2.2.1 (lw_V q1339 q1340 q1341 q111 q1342) rfl rfl rfl hdX3_looks ⟨Nat.le_of_ble_eq_true rfl, Nat.le_of_ble_eq_true rfl⟩) rfl (Nat.le_of_ble_eq_true rfl) dX0_plan_4 ⟨Nat.zero_le _, Nat.zero_le _⟩ (fun H locs G => ?_)
  refine lv_iload_n hx hb dX0_plan_7 rfl (lv_at hl 1 rfl) ?_
  refine lv_iconst (v := 0) hx hb dX0_plan_8 (by decide +kernel) ?_
  refine lv_aload_n hx hb dX0_plan_9 rfl (lv_at hl 0 rfl) ?_
  refine g_getC C0 G in_X0 (ci := 0) rfl (hX.1 0 (by decide)) (fl := xFlX0) ((hX.2.1 0 (by decide)).trans rfl) 12 (by decide) rfl q451 dX0_plan_10 ?_
  refine g_getIN C0 G in_X3 (ci := 3) rfl (hX.1 24 (by decide)) (fl := (xFlX3 24)) ((hX.2.1 24 (by decide)).trans rfl) 15 (by decide) rfl (xn_of C0.2.2.2.2.2.2.2.1 q351 rfl) dX0_plan_13 ?_
  refine lv_iconst (v := 1) hx hb dX0_plan_16 (by decide +kernel) ?_
  refine lv_isub hx hb dX0_plan_17 ?_
  obtain ⟨r3, h_r3, h⟩ := bn1_e h
  refine g_callSi (rest := []) C0 G hl (kX0_in (l := l) C0.2.2.2.2.2.2.1 G.2.2.1 G.2.2.2 hX h_r3) (va_cwS 3 C0.2.2.2.2.1 (lw_S q504 q505 q105 q506) rfl rfl rfl hdX0_in ⟨Nat.le_of_ble_eq_true rfl, Nat.le_of_ble_eq_true rfl⟩) rfl (Nat.le_of_ble_eq_true rfl) dX0_plan_18 ⟨Nat.zero_le _, Nat.zero_le _⟩ (fun H locs G => ?_)
  refine lv_if_eq (tgt := 37) hx hb dX0_plan_21 (by decide) (fun c4 => ?_) (fun c4 => ?_)
  · have h := ite_t h c4
    refine lv_iconst (v := (-1)) hx hb dX0_plan_37 (by decide +kernel) ?_
    cases h
    exact Kr _ _ _ _ dX0_plan_38 G
  · have h := ite_f h c4
    refine lv_iload_n hx hb dX0_plan_24 rfl (lv_at hl 2 rfl) ?_
    refine lv_iconst (v := (-1)) hx hb dX0_plan_25 (by decide +kernel) ?_
    refine lv_icmp_eq (tgt := 39) hx hb dX0_plan_26 (by decide) (fun c5 => ?_) (fun c5 => ?_)
    · have h := ite_t h c5
      exact wX0_plan_39 C0 a1 a2 (σ2) hX _ h Kr _ _ _ hl G
    · have h := ite_f h c5
      refine lv_aload_n hx hb dX0_plan_29 rfl (lv_at hl 0 rfl) ?_
      refine lv_iload_n hx hb dX0_plan_30 rfl (lv_at hl 2 rfl) ?_
      obtain ⟨r6, h_r6, h⟩ := bn1_e h
      refine g_callVi (rest := []) C0 G hl (ci := 0) rfl (hX.1 0 (by decide)) (fl := xFlX0) ((hX.2.1 0 (by decide)).trans rfl) (kX0_isCell (l := l) C0.2.2.2.2.2.2.1 G.2.2.1 G.2.2.2 hX h_r6) (cwV 1 C0.2.2.2.2.1 (lw_V q620 q622 qs5 q105 q623) rfl rfl rfl hdX0_isCell ⟨Nat.le_of_ble_eq_true rfl, Nat.le_of_ble_eq_true rfl⟩) rfl (Nat.le_of_ble_eq_true rfl) dX0_plan_31 ⟨Nat.zero_le _, Nat.zero_le _⟩ (fun H locs G => ?_)
      refine lv_if_ne (tgt := 39) hx hb dX0_plan_34 (by decide) (fun c7 => ?_) (fun c7 => ?_)
      · have h := ite_f h c7
        exact wX0_plan_39 C0 a1 a2 (σ2) hX _ h Kr _ _ _ hl G
      · have h := ite_t h c7
        refine lv_iconst (v := (-1)) hx hb dX0_plan_37 (by decide +kernel) ?_
        cases h
        exact Kr _ _ _ _ dX0_plan_38 G
theorem kX0_plan {l : Launch} {ad : Nat → Nat} {dc : Nat → ClassId} {D : va_G} {A : Nat → Prop}  (hi : ∀ i j, ad i = ad j → i = j) (hn : ks.Nodup) (hA : ∀ k, k ∈ ks → A (ad k)) {σ : St} {a1 : Int32} {a2 : Int32} {r : Int32} {σ' : St} (hX : XOK ks sh) (h : fX0_plan a1 a2 σ = some (r, σ')) : Met l yX0_plan (ws_ yX0_plan cX0_plan 3 (some .int)) RmX0_plan (gPc sh ks ad dc D σ [.ref (ad 0), .int a1, .int a2]) (gQi sh ks ad dc D A σ' r) 0 0 A :=
  g_metI (by decide) rfl hi hn hA (Nat.le_of_ble_eq_true rfl) (fun p e s m below meth c Q C0 Kr ls hl G => wX0_plan_0 C0 a1 a2 σ hX (r, σ') h Kr _ _ ls hl G)
-- X0_reached
abbrev RmX0_reached : Room := { frames := 4, cells := 0, slots := 0, locals := 106 }
theorem hdX0_reached : yX0_reached.cls = RX0 ∧ yX0_reached.cls ≠ "java/lang/invoke/MethodHandle" ∧ yX0_reached.cls ≠ "java/lang/invoke/VarHandle" ∧ (parseMethodDescriptor yX0_reached.desc).map (fun d => d.parameters.length) = some 1 := by decide +kernel
set_option maxHeartbeats 400000 in
theorem wX0_reached_76 (C0 : Cx ad dc D RX0 cX0_reached 2 p s m args meth c) (a1 : Int32) (σ : St) (hX : XOK ks sh) (o : Int32 × St) (h : fX0_reached_76 a1 σ = some o) (Kr : KrI p l e RmX0_reached s m args below meth c cX0_reached Q (GW sh ks ad dc D A s (o.2)) o.1) (H : Heap) (locs : List Loc) (ls : Array Slot) (hl : lv_has ls 2 [(0, .ref (ad 0)), (1, .int a1)]) (G : GW sh ks ad dc D A s σ H locs) : W p l e RmX0_reached s m args below meth c H locs 0 0 Q (F0 m 76 ls []) := by
  have hx := C0.1
  have hb := C0.2.1
  unfold fX0_reached_76 at h
  refine lv_aload_n hx hb dX0_reached_76 rfl (lv_at hl 0 rfl) ?_
  refine g_getC C0 G in_X0 (ci := 0) rfl (hX.1 0 (by decide)) (fl := xFlX0) ((hX.2.1 0 (by decide)).trans rfl) 13 (by decide) rfl q452 dX0_reached_77 ?_
  refine g_getCN C0 G in_X3 (ci := 3) rfl (hX.1 35 (by decide)) (fl := (xFlX3 35)) ((hX.2.1 35 (by decide)).trans rfl) 7 (by decide) rfl (xn_of C0.2.2.2.2.2.2.2.1 q340 rfl) dX0_reached_80 ?_
  refine lv_iload_n hx hb dX0_reached_83 rfl (lv_at hl 1 rfl) ?_
  obtain ⟨b_1, h⟩ := ckB_e h
  refine g_iald C0 G (n := 7) (hX.1 43 (by decide)) ((hX.2.1 43 (by decide)).trans rfl) b_1 dX0_reached_84 ?_
  cases h
  exact Kr _ _ _ _ dX0_reached_85 G
set_option maxHeartbeats 400000 in
theorem wX0_reached_31 (C0 : Cx ad dc D RX0 cX0_reached 2 p s m args meth c) (a1 : Int32) (σ : St) (hX : XOK ks sh) (o : Int32 × St) (h : fX0_reached_31 a1 σ = some o) (Kr : KrI p l e RmX0_reached s m args below meth c cX0_reached Q (GW sh ks ad dc D A s (o.2)) o.1) (H : Heap) (locs : List Loc) (ls : Array Slot) (hl : lv_has ls 2 [(0, .ref (ad 0)), (1, .int a1)]) (G : GW sh ks ad dc D A s σ H locs) : W p l e RmX0_reached s m args below meth c H locs 0 0 Q (F0 m 31 ls []) := by
  have hx := C0.1
  have hb := C0.2.1
  unfold fX0_reached_31 at h
  refine lv_aload_n hx hb dX0_reached_31 rfl (lv_at hl 0 rfl) ?_
  refine g_getC C0 G in_X0 (ci := 0) rfl (hX.1 0 (by decide)) (fl := xFlX0) ((hX.2.1 0 (by decide)).trans rfl) 13 (by decide) rfl q452 dX0_reached_32 ?_
  refine lv_iconst (v := 0) hx hb dX0_reached_35 (by decide +kernel) ?_
  obtain ⟨σ2, h_r1, h⟩ := bn1_e h
  refine g_callVv (rest := []) C0 G hl (ci := 3) rfl (hX.1 35 (by decide)) (fl := (xFlX3 35)) ((hX.2.1 35 (by decide)).trans rfl) (kX3_begins (l := l) C0.2.2.2.2.2.2.1 G.2.2.1 G.2.2.2 hX isP_35 h_r1) (cwV 1 C0.2.2.2.2.1 (lw_V q1421 q1348 q1349 q111 q1350) rfl rfl rfl hdX3_begins ⟨Nat.le_of_ble_eq_true rfl, Nat.le_of_ble_eq_true rfl⟩) rfl (Nat.le_of_ble_eq_true rfl) dX0_reached_36 ⟨Nat.zero_le _, Nat.zero_le _⟩ (fun H locs G => ?_)
  refine lv_aload_n hx hb dX0_reached_39 rfl (lv_at hl 0 rfl) ?_
  refine g_getC C0 G in_X0 (ci := 0) rfl (hX.1 0 (by decide)) (fl := xFlX0) ((hX.2.1 0 (by decide)).trans rfl) 13 (by decide) rfl q452 dX0_reached_40 ?_
  refine lv_aload_n hx hb dX0_reached_43 rfl (lv_at hl 0 rfl) ?_
  refine g_getC C0 G in_X0 (ci := 0) rfl (hX.1 0 (by decide)) (fl := xFlX0) ((hX.2.1 0 (by decide)).trans rfl) 13 (by decide) rfl q452 dX0_reached_44 ?_
  refine lv_aload_n hx hb dX0_reached_47 rfl (lv_at hl 0 rfl) ?_
  refine g_getC C0 G in_X0 (ci := 0) rfl (hX.1 0 (by decide)) (fl := xFlX0) ((hX.2.1 0 (by decide)).trans rfl) 2 (by decide) rfl q438 dX0_reached_48 ?_
  refine g_getCN C0 G in_X1 (ci := 1) rfl (hX.1 2 (by decide)) (fl := xFlX1) ((hX.2.1 2 (by decide)).trans rfl) 0 (by decide) rfl (xn_of C0.2.2.2.2.2.2.2.1 q193 rfl) dX0_reached_51 ?_
  obtain ⟨r3, h_r3, h⟩ := bn1_e h
  refine g_callVi (rest := [.ref (ad 35)]) C0 G hl (ci := 3) rfl (hX.1 35 (by decide)) (fl := (xFlX3 35)) ((hX.2.1 35 (by decide)).trans rfl) (kX3_rowOf_c3 (l := l) C0.2.2.2.2.2.2.1 G.2.2.1 G.2.2.2 hX isP_35 h_r3) (cwV 1 C0.2.2.2.2.1 (lw_V q1422 q1357 q1358 q111 q1359) rfl rfl rfl hdX3_rowOf_c3 ⟨Nat.le_of_ble_eq_true rfl, Nat.le_of_ble_eq_true rfl⟩) rfl (Nat.le_of_ble_eq_true rfl) dX0_reached_54 ⟨Nat.zero_le _, Nat.zero_le _⟩ (fun H locs G => ?_)
  refine lv_iconst (v := (-1)) hx hb dX0_reached_57 (by decide +kernel) ?_
  refine lv_iload_n hx hb dX0_reached_58 rfl (lv_at hl 1 rfl) ?_
  obtain ⟨r4, σ5, h_r4, h⟩ := bn2_e h
  refine g_callVNi (rest := []) C0 G hl (ci := 3) rfl (hX.1 35 (by decide)) (fl := (xFlX3 35)) ((hX.2.1 35 (by decide)).trans rfl) (kX3_lays (l := l) C0.2.2.2.2.2.2.1 G.2.2.1 G.2.2.2 hX isP_35 h_r4) ⟨va_cnB 3 C0.2.2.2.2.1 (lw_meth q1363) rfl rfl rfl (xn_of C0.2.2.2.2.2.2.2.1 q1423 rfl) (C0.2.2.2.2.1 _ q111) hdX3_lays.2 ⟨Nat.le_of_ble_eq_true rfl, Nat.le_of_ble_eq_true rfl⟩, C0.2.2.2.2.1 _ q1362, C0.2.2.2.2.1 _ qs35⟩ rfl (Nat.le_of_ble_eq_true rfl) dX0_reached_59 ⟨Nat.zero_le _, Nat.zero_le _⟩ (fun H locs G => ?_)
  refine lv_pop hx hb dX0_reached_62 rfl ?_
  refine lv_aload_n hx hb dX0_reached_63 rfl (lv_at hl 0 rfl) ?_
  refine lv_aload_n hx hb dX0_reached_64 rfl (lv_at hl 0 rfl) ?_
  refine g_getI C0 G in_X0 (ci := 0) rfl (hX.1 0 (by decide)) (fl := xFlX0) ((hX.2.1 0 (by decide)).trans rfl) 7 (by decide) rfl q445 dX0_reached_65 ?_
  refine g_putI C0 G in_X0 tyX0_ok nmX0 (ci := 0) rfl (hX.1 0 (by decide)) (fl := xFlX0) ((hX.2.1 0 (by decide)).trans rfl) 14 (by decide) rfl q453 rfl dX0_reached_68 ⟨rfl, rfl⟩ (fun σ6 H locs e_σ6 G => ?_)
  have h := letB_e h e_σ6
  refine lv_aload_n hx hb dX0_reached_71 rfl (lv_at hl 0 rfl) ?_
  refine lv_iload_n hx hb dX0_reached_72 rfl (lv_at hl 1 rfl) ?_
  refine g_putI C0 G in_X0 tyX0_ok nmX0 (ci := 0) rfl (hX.1 0 (by decide)) (fl := xFlX0) ((hX.2.1 0 (by decide)).trans rfl) 15 (by decide) rfl q454 rfl dX0_reached_73 ⟨rfl, rfl⟩ (fun σ7 H locs e_σ7 G => ?_)
  have h := letB_e h e_σ7
  exact wX0_reached_76 C0 a1 (σ7) hX _ h Kr _ _ _ hl G
set_option maxHeartbeats 400000 in
theorem wX0_reached_0 (C0 : Cx ad dc D RX0 cX0_reached 2 p s m args meth c) (a1 : Int32) (σ : St) (hX : XOK ks sh) (o : Int32 × St) (h : fX0_reached a1 σ = some o) (Kr : KrI p l e RmX0_reached s m args below meth c cX0_reached Q (GW sh ks ad dc D A s (o.2)) o.1) (H : Heap) (locs : List Loc) (ls : Array Slot) (hl : lv_has ls 2 [(0, .ref (ad 0)), (1, .int a1)]) (G : GW sh ks ad dc D A s σ H locs) : W p l e RmX0_reached s m args below meth c H locs 0 0 Q (F0 m 0 ls []) := by
  have hx := C0.1
  have hb := C0.2.1
  unfold fX0_reached at h
  refine lv_iload_n hx hb dX0_reached_0 rfl (lv_at hl 1 rfl) ?_
  refine lv_iconst (v := 0) hx hb dX0_reached_1 (by decide +kernel) ?_
  refine lv_bipush (v := 6) hx hb dX0_reached_2 (by decide +kernel) ?_
  obtain ⟨r1, h_r1, h⟩ := bn1_e h
  refine g_callSi (rest := []) C0 G hl (kX0_in (l := l) C0.2.2.2.2.2.2.1 G.2.2.1 G.2.2.2 hX h_r1) (va_cwS 3 C0.2.2.2.2.1 (lw_S q504 q505 q105 q506) rfl rfl rfl hdX0_in ⟨Nat.le_of_ble_eq_true rfl, Nat.le_of_ble_eq_true rfl⟩) rfl (Nat.le_of_ble_eq_true rfl) dX0_reached_4 ⟨Nat.zero_le _, Nat.zero_le _⟩ (fun H locs G => ?_)
  refine lv_if_ne (tgt := 12) hx hb dX0_reached_7 (by decide) (fun c2 => ?_) (fun c2 => ?_)
  · have h := ite_f h c2
    refine lv_aload_n hx hb dX0_reached_12 rfl (lv_at hl 0 rfl) ?_
    refine g_getI C0 G in_X0 (ci := 0) rfl (hX.1 0 (by decide)) (fl := xFlX0) ((hX.2.1 0 (by decide)).trans rfl) 14 (by decide) rfl q453 dX0_reached_13 ?_
    refine lv_aload_n hx hb dX0_reached_16 rfl (lv_at hl 0 rfl) ?_
    refine g_getI C0 G in_X0 (ci := 0) rfl (hX.1 0 (by decide)) (fl := xFlX0) ((hX.2.1 0 (by decide)).trans rfl) 7 (by decide) rfl q445 dX0_reached_17 ?_
    refine lv_icmp_ne (tgt := 31) hx hb dX0_reached_20 (by decide) (fun c3 => ?_) (fun c3 => ?_)
    · have h := ite_f h c3
      exact wX0_reached_31 C0 a1 (σ) hX _ h Kr _ _ _ hl G
    · have h := ite_t h c3
      refine lv_aload_n hx hb dX0_reached_23 rfl (lv_at hl 0 rfl) ?_
      refine g_getI C0 G in_X0 (ci := 0) rfl (hX.1 0 (by decide)) (fl := xFlX0) ((hX.2.1 0 (by decide)).trans rfl) 15 (by decide) rfl q454 dX0_reached_24 ?_
      refine lv_iload_n hx hb dX0_reached_27 rfl (lv_at hl 1 rfl) ?_
      refine lv_icmp_ge (tgt := 76) hx hb dX0_reached_28 (by decide) (fun c4 => ?_) (fun c4 => ?_)
      · have h := ite_t h c4
        exact wX0_reached_76 C0 a1 (σ) hX _ h Kr _ _ _ hl G
      · have h := ite_f h c4
        exact wX0_reached_31 C0 a1 (σ) hX _ h Kr _ _ _ hl G
  · have h := ite_t h c2
    refine lv_iconst (v := (-1)) hx hb dX0_reached_10 (by decide +kernel) ?_
    cases h
    exact Kr _ _ _ _ dX0_reached_11 G
theorem kX0_reached {l : Launch} {ad : Nat → Nat} {dc : Nat → ClassId} {D : va_G} {A : Nat → Prop}  (hi : ∀ i j, ad i = ad j → i = j) (hn : ks.Nodup) (hA : ∀ k, k ∈ ks → A (ad k)) {σ : St} {a1 : Int32} {r : Int32} {σ' : St} (hX : XOK ks sh) (h : fX0_reached a1 σ = some (r, σ')) : Met l yX0_reached (ws_ yX0_reached cX0_reached 2 (some .int)) RmX0_reached (gPc sh ks ad dc D σ [.ref (ad 0), .int a1]) (gQi sh ks ad dc D A σ' r) 0 0 A :=
  g_metI (by decide) rfl hi hn hA (Nat.le_of_ble_eq_true rfl) (fun p e s m below meth c Q C0 Kr ls hl G => wX0_reached_0 C0 a1 σ hX (r, σ') h Kr _ _ ls hl G)
-- X3_totalOf_c46
abbrev RmX3_totalOf_c46 : Room := { frames := 0, cells := 0, slots := 0, locals := 0 }
theorem hdX3_totalOf_c46 : yX3_totalOf.cls = RX3 ∧ yX3_totalOf.cls ≠ "java/lang/invoke/MethodHandle" ∧ yX3_totalOf.cls ≠ "java/lang/invoke/VarHandle" ∧ (parseMethodDescriptor yX3_totalOf.desc).map (fun d => d.parameters.length) = some 1 := by decide +kernel
set_option maxHeartbeats 400000 in
theorem wbX3_totalOf_c46_4 (C0 : Cx ad dc D RX3 cX3_totalOf 4 p s m args meth c) (a2 : Int32) (a3 : Int32) (σ : St) (hX : XOK ks sh) (hq0 : isP q0) (o : (Int32) ⊕ (Int32 × Int32)) (h : bX3_totalOf_c46_4 q0 a2 a3 σ = some o) (Kb : ∀ (b2 : Int32) (b3 : Int32), o = .inr (b2, b3) → ∀ (H : Heap) (locs : List Loc) (ls : Array Slot), lv_has ls 4 [(0, .ref (ad q0)), (1, .ref (ad 46)), (2, .int b2), (3, .int b3)] → GW sh ks ad dc D A s σ H locs → W p l e RmX3_totalOf_c46 s m args below meth c H locs 0 0 Q (F0 m 4 ls [])) (Ke0 : ∀ (b2 : Int32), o = .inl b2 → ∀ (H : Heap) (locs : List Loc) (ls : Array Slot), lv_has ls 4 [(2, .int b2)] → GW sh ks ad dc D A s σ H locs → W p l e RmX3_totalOf_c46 s m args below meth c H locs 0 0 Q (F0 m 24 ls [])) (H : Heap) (locs : List Loc) (ls : Array Slot) (hl : lv_has ls 4 [(0, .ref (ad q0)), (1, .ref (ad 46)), (2, .int a2), (3, .int a3)]) (G : GW sh ks ad dc D A s σ H locs) : W p l e RmX3_totalOf_c46 s m args below meth c H locs 0 0 Q (F0 m 4 ls []) := by
  have hx := C0.1
  have hb := C0.2.1
  unfold bX3_totalOf_c46_4 at h
  refine lv_iload_n hx hb dX3_totalOf_4 rfl (lv_at hl 3 rfl) ?_
  refine lv_aload_n hx hb dX3_totalOf_5 rfl (lv_at hl 0 rfl) ?_
  refine g_getI C0 G in_X3 (ci := 3) rfl (hX.1 _ (xP_l hq0)) (fl := (xFlX3 q0)) ((hX.2.1 _ (xP_l hq0)).trans (xP_s hq0)) 10 (by decide) rfl q345 dX3_totalOf_6 ?_
  refine lv_icmp_ge (tgt := 24) hx hb dX3_totalOf_9 (by decide) (fun c1 => ?_) (fun c1 => ?_)
  · have h := ite_t h c1
    cases h
    exact Ke0 a2 rfl _ _ _ (lv_sub hl [2] rfl) G
  · have h := ite_f h c1
    refine lv_iload_n hx hb dX3_totalOf_12 rfl (lv_at hl 2 rfl) ?_
    refine lv_aload_n hx hb dX3_totalOf_13 rfl (lv_at hl 1 rfl) ?_
    refine lv_iload_n hx hb dX3_totalOf_14 rfl (lv_at hl 3 rfl) ?_
    obtain ⟨b_2, h⟩ := ckB_e h
    refine g_iald C0 G (n := 5) (hX.1 46 (by decide)) ((hX.2.1 46 (by decide)).trans rfl) b_2 dX3_totalOf_15 ?_
    refine lv_iadd hx hb dX3_totalOf_16 ?_
    refine lv_topi (fun x3 e_x3 => ?_)
    have h := letB_e h e_x3
    refine lv_istore_n (lv' := [(2, .int x3), (0, .ref (ad q0)), (1, .ref (ad 46)), (3, .int a3)]) hx hb dX3_totalOf_17 rfl hl (by decide) rfl (fun ls hl => ?_)
    obtain ⟨x4, e_x4⟩ : ∃ z : Int32, z = a3 + 1 := ⟨_, rfl⟩
    have h := letB_e h e_x4
    refine lv_iinc (v := x4) (lv' := [(3, .int x4), (2, .int x3), (0, .ref (ad q0)), (1, .ref (ad 46))]) hx hb dX3_totalOf_18 hl (k := 3) rfl ((congrArg (fun z => a3 + z) (show Int32.ofInt 1 = 1 by decide)).trans e_x4.symm) (by decide) rfl (fun ls hl => ?_)
    refine lv_goto (tgt := 4) hx hb dX3_totalOf_21 (by decide) ?_
    cases h
    exact Kb x3 x4 rfl _ _ _ (lv_sub hl [2, 3, 1, 0] rfl) G
set_option maxHeartbeats 400000 in
theorem lX3_totalOf_c46_4 (C0 : Cx ad dc D RX3 cX3_totalOf 4 p s m args meth c)  (σ : St) (hX : XOK ks sh) (hq0 : isP q0) : ∀ (n : Nat) (a2 : Int32) (a3 : Int32) (ex : Int32) (h : iter (fun v : Int32 × Int32 => bX3_totalOf_c46_4 q0 v.1 v.2 σ) n (a2, a3) = some ex) (Ke0 : ∀ (b2 : Int32), ex = b2 → ∀ (H : Heap) (locs : List Loc) (ls : Array Slot), lv_has ls 4 [(2, .int b2)] → GW sh ks ad dc D A s σ H locs → W p l e RmX3_totalOf_c46 s m args below meth c H locs 0 0 Q (F0 m 24 ls [])) (H : Heap) (locs : List Loc) (ls : Array Slot) (hl : lv_has ls 4 [(0, .ref (ad q0)), (1, .ref (ad 46)), (2, .int a2), (3, .int a3)]) (G : GW sh ks ad dc D A s σ H locs), W p l e RmX3_totalOf_c46 s m args below meth c H locs 0 0 Q (F0 m 4 ls []) := by
  intro n
  induction n with
  | zero =>
    intro a2 a3 ex h
    cases h
  | succ n ih =>
    intro a2 a3 ex h Ke0 H locs ls hl G
    obtain ⟨r, hb1, hr⟩ := iter_e h
    refine wbX3_totalOf_c46_4 C0 a2 a3 σ hX hq0 r hb1 ?_ ?_ H locs ls hl G
    · intro b2 b3 hv H locs ls hl G
      subst hv
      rcases hr with hr | ⟨a', hr, h2⟩
      · cases hr
      · rw [← Sum.inr.inj hr] at h2
        exact ih b2 b3 ex h2 Ke0 H locs ls hl G
    · intro b2 hv H locs ls hl G
      subst hv
      rcases hr with hr | ⟨a', hr, h2⟩
      · exact Ke0 b2 (Sum.inl.inj hr).symm H locs ls hl G
      · cases hr
set_option maxHeartbeats 400000 in
theorem wX3_totalOf_c46_4 (C0 : Cx ad dc D RX3 cX3_totalOf 4 p s m args meth c) (a2 : Int32) (a3 : Int32) (σ : St) (hX : XOK ks sh) (hq0 : isP q0) (o : Int32) (h : fX3_totalOf_c46_4 q0 a2 a3 σ = some o) (Kr : KrI p l e RmX3_totalOf_c46 s m args below meth c cX3_totalOf Q (GW sh ks ad dc D A s (σ)) o) (H : Heap) (locs : List Loc) (ls : Array Slot) (hl : lv_has ls 4 [(0, .ref (ad q0)), (1, .ref (ad 46)), (2, .int a2), (3, .int a3)]) (G : GW sh ks ad dc D A s σ H locs) : W p l e RmX3_totalOf_c46 s m args below meth c H locs 0 0 Q (F0 m 4 ls []) := by
  have hx := C0.1
  have hb := C0.2.1
  unfold fX3_totalOf_c46_4 at h
  obtain ⟨ex, h1, h⟩ := bn1_e h
  refine lX3_totalOf_c46_4 C0  σ hX hq0 FU a2 a3 ex h1 ?_ H locs ls hl G
  · intro b2 hv H locs ls hl G
    rw [hv] at h
    have h : (some b2) = some o := h
    refine lv_iload_n hx hb dX3_totalOf_24 rfl (lv_at hl 0 rfl) ?_
    cases h
    exact Kr _ _ _ _ dX3_totalOf_25 G
set_option maxHeartbeats 400000 in
theorem wX3_totalOf_c46_0 (C0 : Cx ad dc D RX3 cX3_totalOf 4 p s m args meth c) (σ : St) (hX : XOK ks sh) (hq0 : isP q0) (o : Int32) (h : fX3_totalOf_c46 q0 σ = some o) (Kr : KrI p l e RmX3_totalOf_c46 s m args below meth c cX3_totalOf Q (GW sh ks ad dc D A s (σ)) o) (H : Heap) (locs : List Loc) (ls : Array Slot) (hl : lv_has ls 4 [(0, .ref (ad q0)), (1, .ref (ad 46))]) (G : GW sh ks ad dc D A s σ H locs) : W p l e RmX3_totalOf_c46 s m args below meth c H locs 0 0 Q (F0 m 0 ls []) := by
  have hx := C0.1
  have hb := C0.2.1
  unfold fX3_totalOf_c46 at h
  refine lv_iconst (v := 0) hx hb dX3_totalOf_0 (by decide +kernel) ?_
  refine lv_istore_n (lv' := [(2, .int 0), (0, .ref (ad q0)), (1, .ref (ad 46))]) hx hb dX3_totalOf_1 rfl hl (by decide) rfl (fun ls hl => ?_)
  refine lv_iconst (v := 0) hx hb dX3_totalOf_2 (by decide +kernel) ?_
  refine lv_istore_n (lv' := [(3, .int 0), (2, .int 0), (0, .ref (ad q0)), (1, .ref (ad 46))]) hx hb dX3_totalOf_3 rfl hl (by decide) rfl (fun ls hl => ?_)
  exact wX3_totalOf_c46_4 C0 0 0 (σ) hX hq0 _ h Kr _ _ _ (lv_sub hl [2, 3, 1, 0] rfl) G
theorem kX3_totalOf_c46 {l : Launch} {ad : Nat → Nat} {dc : Nat → ClassId} {D : va_G} {A : Nat → Prop} {q0 : Nat} (hi : ∀ i j, ad i = ad j → i = j) (hn : ks.Nodup) (hA : ∀ k, k ∈ ks → A (ad k)) {σ : St}  {r : Int32} (hX : XOK ks sh) (hq0 : isP q0) (h : fX3_totalOf_c46 q0 σ = some r) : Met l yX3_totalOf (ws_ yX3_totalOf cX3_totalOf 4 (some .int)) RmX3_totalOf_c46 (gPc sh ks ad dc D σ [.ref (ad q0), .ref (ad 46)]) (gQi sh ks ad dc D A σ r) 0 0 A :=
  g_metI (by decide) rfl hi hn hA (Nat.le_of_ble_eq_true rfl) (fun p e s m below meth c Q C0 Kr ls hl G => wX3_totalOf_c46_0 C0  σ hX hq0 r h Kr _ _ ls hl G)
-- X3_rowOf_c46
abbrev RmX3_rowOf_c46 : Room := { frames := 0, cells := 0, slots := 0, locals := 0 }
theorem hdX3_rowOf_c46 : yX3_rowOf.cls = RX3 ∧ yX3_rowOf.cls ≠ "java/lang/invoke/MethodHandle" ∧ yX3_rowOf.cls ≠ "java/lang/invoke/VarHandle" ∧ (parseMethodDescriptor yX3_rowOf.desc).map (fun d => d.parameters.length) = some 1 := by decide +kernel
set_option maxHeartbeats 400000 in
theorem wbX3_rowOf_c46_4 (C0 : Cx ad dc D RX3 cX3_rowOf 4 p s m args meth c) (a2 : Int32) (a3 : Int32) (σ : St) (hX : XOK ks sh) (hq0 : isP q0) (o : (Int32) ⊕ (Int32 × Int32)) (h : bX3_rowOf_c46_4 q0 a2 a3 σ = some o) (Kb : ∀ (b2 : Int32) (b3 : Int32), o = .inr (b2, b3) → ∀ (H : Heap) (locs : List Loc) (ls : Array Slot), lv_has ls 4 [(0, .ref (ad q0)), (1, .ref (ad 46)), (2, .int b2), (3, .int b3)] → GW sh ks ad dc D A s σ H locs → W p l e RmX3_rowOf_c46 s m args below meth c H locs 0 0 Q (F0 m 4 ls [])) (Ke0 : ∀ (b2 : Int32), o = .inl b2 → ∀ (H : Heap) (locs : List Loc) (ls : Array Slot), lv_has ls 4 [(2, .int b2)] → GW sh ks ad dc D A s σ H locs → W p l e RmX3_rowOf_c46 s m args below meth c H locs 0 0 Q (F0 m 29 ls [])) (H : Heap) (locs : List Loc) (ls : Array Slot) (hl : lv_has ls 4 [(0, .ref (ad q0)), (1, .ref (ad 46)), (2, .int a2), (3, .int a3)]) (G : GW sh ks ad dc D A s σ H locs) : W p l e RmX3_rowOf_c46 s m args below meth c H locs 0 0 Q (F0 m 4 ls []) := by
  have hx := C0.1
  have hb := C0.2.1
  unfold bX3_rowOf_c46_4 at h
  refine lv_iload_n hx hb dX3_rowOf_4 rfl (lv_at hl 3 rfl) ?_
  refine lv_aload_n hx hb dX3_rowOf_5 rfl (lv_at hl 0 rfl) ?_
  refine g_getI C0 G in_X3 (ci := 3) rfl (hX.1 _ (xP_l hq0)) (fl := (xFlX3 q0)) ((hX.2.1 _ (xP_l hq0)).trans (xP_s hq0)) 10 (by decide) rfl q345 dX3_rowOf_6 ?_
  refine lv_icmp_ge (tgt := 29) hx hb dX3_rowOf_9 (by decide) (fun c1 => ?_) (fun c1 => ?_)
  · have h := ite_t h c1
    cases h
    exact Ke0 a2 rfl _ _ _ (lv_sub hl [2] rfl) G
  · have h := ite_f h c1
    refine lv_bipush (v := 9) hx hb dX3_rowOf_12 (by decide +kernel) ?_
    refine lv_iload_n hx hb dX3_rowOf_14 rfl (lv_at hl 2 rfl) ?_
    refine lv_imul hx hb dX3_rowOf_15 ?_
    refine lv_aload_n hx hb dX3_rowOf_16 rfl (lv_at hl 1 rfl) ?_
    refine lv_iload_n hx hb dX3_rowOf_17 rfl (lv_at hl 3 rfl) ?_
    obtain ⟨b_2, h⟩ := ckB_e h
    refine g_iald C0 G (n := 5) (hX.1 46 (by decide)) ((hX.2.1 46 (by decide)).trans rfl) b_2 dX3_rowOf_18 ?_
    refine lv_iadd hx hb dX3_rowOf_19 ?_
    refine lv_iconst (v := 1) hx hb dX3_rowOf_20 (by decide +kernel) ?_
    refine lv_isub hx hb dX3_rowOf_21 ?_
    refine lv_topi (fun x3 e_x3 => ?_)
    have h := letB_e h e_x3
    refine lv_istore_n (lv' := [(2, .int x3), (0, .ref (ad q0)), (1, .ref (ad 46)), (3, .int a3)]) hx hb dX3_rowOf_22 rfl hl (by decide) rfl (fun ls hl => ?_)
    obtain ⟨x4, e_x4⟩ : ∃ z : Int32, z = a3 + 1 := ⟨_, rfl⟩
    have h := letB_e h e_x4
    refine lv_iinc (v := x4) (lv' := [(3, .int x4), (2, .int x3), (0, .ref (ad q0)), (1, .ref (ad 46))]) hx hb dX3_rowOf_23 hl (k := 3) rfl ((congrArg (fun z => a3 + z) (show Int32.ofInt 1 = 1 by decide)).trans e_x4.symm) (by decide) rfl (fun ls hl => ?_)
    refine lv_goto (tgt := 4) hx hb dX3_rowOf_26 (by decide) ?_
    cases h
    exact Kb x3 x4 rfl _ _ _ (lv_sub hl [2, 3, 1, 0] rfl) G
set_option maxHeartbeats 400000 in
theorem lX3_rowOf_c46_4 (C0 : Cx ad dc D RX3 cX3_rowOf 4 p s m args meth c)  (σ : St) (hX : XOK ks sh) (hq0 : isP q0) : ∀ (n : Nat) (a2 : Int32) (a3 : Int32) (ex : Int32) (h : iter (fun v : Int32 × Int32 => bX3_rowOf_c46_4 q0 v.1 v.2 σ) n (a2, a3) = some ex) (Ke0 : ∀ (b2 : Int32), ex = b2 → ∀ (H : Heap) (locs : List Loc) (ls : Array Slot), lv_has ls 4 [(2, .int b2)] → GW sh ks ad dc D A s σ H locs → W p l e RmX3_rowOf_c46 s m args below meth c H locs 0 0 Q (F0 m 29 ls [])) (H : Heap) (locs : List Loc) (ls : Array Slot) (hl : lv_has ls 4 [(0, .ref (ad q0)), (1, .ref (ad 46)), (2, .int a2), (3, .int a3)]) (G : GW sh ks ad dc D A s σ H locs), W p l e RmX3_rowOf_c46 s m args below meth c H locs 0 0 Q (F0 m 4 ls []) := by
  intro n
  induction n with
  | zero =>
    intro a2 a3 ex h
    cases h
  | succ n ih =>
    intro a2 a3 ex h Ke0 H locs ls hl G
    obtain ⟨r, hb1, hr⟩ := iter_e h
    refine wbX3_rowOf_c46_4 C0 a2 a3 σ hX hq0 r hb1 ?_ ?_ H locs ls hl G
    · intro b2 b3 hv H locs ls hl G
      subst hv
      rcases hr with hr | ⟨a', hr, h2⟩
      · cases hr
      · rw [← Sum.inr.inj hr] at h2
        exact ih b2 b3 ex h2 Ke0 H locs ls hl G
    · intro b2 hv H locs ls hl G
      subst hv
      rcases hr with hr | ⟨a', hr, h2⟩
      · exact Ke0 b2 (Sum.inl.inj hr).symm H locs ls hl G
      · cases hr
set_option maxHeartbeats 400000 in
theorem wX3_rowOf_c46_4 (C0 : Cx ad dc D RX3 cX3_rowOf 4 p s m args meth c) (a2 : Int32) (a3 : Int32) (σ : St) (hX : XOK ks sh) (hq0 : isP q0) (o : Int32) (h : fX3_rowOf_c46_4 q0 a2 a3 σ = some o) (Kr : KrI p l e RmX3_rowOf_c46 s m args below meth c cX3_rowOf Q (GW sh ks ad dc D A s (σ)) o) (H : Heap) (locs : List Loc) (ls : Array Slot) (hl : lv_has ls 4 [(0, .ref (ad q0)), (1, .ref (ad 46)), (2, .int a2), (3, .int a3)]) (G : GW sh ks ad dc D A s σ H locs) : W p l e RmX3_rowOf_c46 s m args below meth c H locs 0 0 Q (F0 m 4 ls []) := by
  have hx := C0.1
  have hb := C0.2.1
  unfold fX3_rowOf_c46_4 at h
  obtain ⟨ex, h1, h⟩ := bn1_e h
  refine lX3_rowOf_c46_4 C0  σ hX hq0 FU a2 a3 ex h1 ?_ H locs ls hl G
  · intro b2 hv H locs ls hl G
    rw [hv] at h
    have h : (some b2) = some o := h
    refine lv_iload_n hx hb dX3_rowOf_29 rfl (lv_at hl 0 rfl) ?_
    cases h
    exact Kr _ _ _ _ dX3_rowOf_30 G
set_option maxHeartbeats 400000 in
theorem wX3_rowOf_c46_0 (C0 : Cx ad dc D RX3 cX3_rowOf 4 p s m args meth c) (σ : St) (hX : XOK ks sh) (hq0 : isP q0) (o : Int32) (h : fX3_rowOf_c46 q0 σ = some o) (Kr : KrI p l e RmX3_rowOf_c46 s m args below meth c cX3_rowOf Q (GW sh ks ad dc D A s (σ)) o) (H : Heap) (locs : List Loc) (ls : Array Slot) (hl : lv_has ls 4 [(0, .ref (ad q0)), (1, .ref (ad 46))]) (G : GW sh ks ad dc D A s σ H locs) : W p l e RmX3_rowOf_c46 s m args below meth c H locs 0 0 Q (F0 m 0 ls []) := by
  have hx := C0.1
  have hb := C0.2.1
  unfold fX3_rowOf_c46 at h
  refine lv_iconst (v := 0) hx hb dX3_rowOf_0 (by decide +kernel) ?_
  refine lv_istore_n (lv' := [(2, .int 0), (0, .ref (ad q0)), (1, .ref (ad 46))]) hx hb dX3_rowOf_1 rfl hl (by decide) rfl (fun ls hl => ?_)
  refine lv_iconst (v := 0) hx hb dX3_rowOf_2 (by decide +kernel) ?_
  refine lv_istore_n (lv' := [(3, .int 0), (2, .int 0), (0, .ref (ad q0)), (1, .ref (ad 46))]) hx hb dX3_rowOf_3 rfl hl (by decide) rfl (fun ls hl => ?_)
  exact wX3_rowOf_c46_4 C0 0 0 (σ) hX hq0 _ h Kr _ _ _ (lv_sub hl [2, 3, 1, 0] rfl) G
theorem kX3_rowOf_c46 {l : Launch} {ad : Nat → Nat} {dc : Nat → ClassId} {D : va_G} {A : Nat → Prop} {q0 : Nat} (hi : ∀ i j, ad i = ad j → i = j) (hn : ks.Nodup) (hA : ∀ k, k ∈ ks → A (ad k)) {σ : St}  {r : Int32} (hX : XOK ks sh) (hq0 : isP q0) (h : fX3_rowOf_c46 q0 σ = some r) : Met l yX3_rowOf (ws_ yX3_rowOf cX3_rowOf 4 (some .int)) RmX3_rowOf_c46 (gPc sh ks ad dc D σ [.ref (ad q0), .ref (ad 46)]) (gQi sh ks ad dc D A σ r) 0 0 A :=
  g_metI (by decide) rfl hi hn hA (Nat.le_of_ble_eq_true rfl) (fun p e s m below meth c Q C0 Kr ls hl G => wX3_rowOf_c46_0 C0  σ hX hq0 r h Kr _ _ ls hl G)
-- X3_fewest_c46
abbrev RmX3_fewest_c46 : Room := { frames := 4, cells := 0, slots := 0, locals := 106 }
theorem hdX3_fewest_c46 : yX3_fewest.cls = RX3 ∧ yX3_fewest.cls ≠ "java/lang/invoke/MethodHandle" ∧ yX3_fewest.cls ≠ "java/lang/invoke/VarHandle" ∧ (parseMethodDescriptor yX3_fewest.desc).map (fun d => d.parameters.length) = some 2 := by decide +kernel
set_option maxHeartbeats 400000 in
theorem wX3_fewest_c46_0 (C0 : Cx ad dc D RX3 cX3_fewest 4 p s m args meth c) (a2 : Int32) (σ : St) (hX : XOK ks sh) (hq0 : isP q0) (o : Int32 × St) (h : fX3_fewest_c46 q0 a2 σ = some o) (Kr : KrI p l e RmX3_fewest_c46 s m args below meth c cX3_fewest Q (GW sh ks ad dc D A s (o.2)) o.1) (H : Heap) (locs : List Loc) (ls : Array Slot) (hl : lv_has ls 4 [(0, .ref (ad q0)), (1, .ref (ad 46)), (2, .int a2)]) (G : GW sh ks ad dc D A s σ H locs) : W p l e RmX3_fewest_c46 s m args below meth c H locs 0 0 Q (F0 m 0 ls []) := by
  have hx := C0.1
  have hb := C0.2.1
  unfold fX3_fewest_c46 at h
  refine lv_aload_n hx hb dX3_fewest_0 rfl (lv_at hl 0 rfl) ?_
  refine lv_iload_n hx hb dX3_fewest_1 rfl (lv_at hl 2 rfl) ?_
  obtain ⟨σ2, h_r1, h⟩ := bn1_e h
  refine g_callVv (rest := []) C0 G hl (ci := 3) rfl (hX.1 _ (xP_l hq0)) (fl := (xFlX3 q0)) ((hX.2.1 _ (xP_l hq0)).trans (xP_s hq0)) (kX3_begins (l := l) C0.2.2.2.2.2.2.1 G.2.2.1 G.2.2.2 hX hq0 h_r1) (cwV 1 C0.2.2.2.2.1 (lw_V q1347 q1348 q1349 q111 q1350) rfl rfl rfl hdX3_begins ⟨Nat.le_of_ble_eq_true rfl, Nat.le_of_ble_eq_true rfl⟩) rfl (Nat.le_of_ble_eq_true rfl) dX3_fewest_2 ⟨Nat.zero_le _, Nat.zero_le _⟩ (fun H locs G => ?_)
  refine lv_aload_n hx hb dX3_fewest_5 rfl (lv_at hl 0 rfl) ?_
  refine lv_aload_n hx hb dX3_fewest_6 rfl (lv_at hl 1 rfl) ?_
  obtain ⟨r3, h_r3, h⟩ := bn1_e h
  refine g_callVi (rest := []) C0 G hl (ci := 3) rfl (hX.1 _ (xP_l hq0)) (fl := (xFlX3 q0)) ((hX.2.1 _ (xP_l hq0)).trans (xP_s hq0)) (kX3_totalOf_c46 (l := l) C0.2.2.2.2.2.2.1 G.2.2.1 G.2.2.2 hX hq0 h_r3) (cwV 1 C0.2.2.2.2.1 (lw_V q1351 q1353 qs34 q111 q1354) rfl rfl rfl hdX3_totalOf_c46 ⟨Nat.le_of_ble_eq_true rfl, Nat.le_of_ble_eq_true rfl⟩) rfl (Nat.le_of_ble_eq_true rfl) dX3_fewest_7 ⟨Nat.zero_le _, Nat.zero_le _⟩ (fun H locs G => ?_)
  refine lv_aload_n hx hb dX3_fewest_10 rfl (lv_at hl 0 rfl) ?_
  refine lv_aload_n hx hb dX3_fewest_11 rfl (lv_at hl 0 rfl) ?_
  refine g_getC C0 G in_X3 (ci := 3) rfl (hX.1 _ (xP_l hq0)) (fl := (xFlX3 q0)) ((hX.2.1 _ (xP_l hq0)).trans (xP_s hq0)) 17 (by decide) rfl q353 dX3_fewest_12 ?_
  refine g_getCN C0 G in_X0 (ci := 0) rfl (hX.1 0 (by decide)) (fl := xFlX0) ((hX.2.1 0 (by decide)).trans rfl) 2 (by decide) rfl (xn_of C0.2.2.2.2.2.2.2.1 q440 rfl) dX3_fewest_15 ?_
  refine g_getCN C0 G in_X1 (ci := 1) rfl (hX.1 2 (by decide)) (fl := xFlX1) ((hX.2.1 2 (by decide)).trans rfl) 1 (by decide) rfl (xn_of C0.2.2.2.2.2.2.2.1 q197 rfl) dX3_fewest_18 ?_
  obtain ⟨r4, h_r4, h⟩ := bn1_e h
  refine g_callVi (rest := [.int r3]) C0 G hl (ci := 3) rfl (hX.1 _ (xP_l hq0)) (fl := (xFlX3 q0)) ((hX.2.1 _ (xP_l hq0)).trans (xP_s hq0)) (kX3_totalOf_c4 (l := l) C0.2.2.2.2.2.2.1 G.2.2.1 G.2.2.2 hX hq0 h_r4) (cwV 1 C0.2.2.2.2.1 (lw_V q1351 q1353 qs34 q111 q1354) rfl rfl rfl hdX3_totalOf_c4 ⟨Nat.le_of_ble_eq_true rfl, Nat.le_of_ble_eq_true rfl⟩) rfl (Nat.le_of_ble_eq_true rfl) dX3_fewest_21 ⟨Nat.zero_le _, Nat.zero_le _⟩ (fun H locs G => ?_)
  refine lv_isub hx hb dX3_fewest_24 ?_
  refine lv_topi (fun x5 e_x5 => ?_)
  have h := letB_e h e_x5
  refine lv_istore_n (lv' := [(3, .int x5), (0, .ref (ad q0)), (1, .ref (ad 46)), (2, .int a2)]) hx hb dX3_fewest_25 rfl hl (by decide) rfl (fun ls hl => ?_)
  refine lv_iload_n hx hb dX3_fewest_26 rfl (lv_at hl 0 rfl) ?_
  refine lv_iconst (v := 0) hx hb dX3_fewest_27 (by decide +kernel) ?_
  refine lv_bipush (v := 6) hx hb dX3_fewest_28 (by decide +kernel) ?_
  obtain ⟨r6, h_r6, h⟩ := bn1_e h
  refine g_callSNi (rest := []) C0 G hl (kX0_in (l := l) C0.2.2.2.2.2.2.1 G.2.2.1 G.2.2.2 hX h_r6) ⟨va_cnB 3 C0.2.2.2.2.1 (lw_meth q506) rfl rfl rfl (xn_of C0.2.2.2.2.2.2.2.1 q1355 rfl) (C0.2.2.2.2.1 _ q105) hdX0_in ⟨Nat.le_of_ble_eq_true rfl, Nat.le_of_ble_eq_true rfl⟩, C0.2.2.2.2.1 _ q505, trivial⟩ rfl (Nat.le_of_ble_eq_true rfl) dX3_fewest_30 ⟨Nat.zero_le _, Nat.zero_le _⟩ (fun H locs G => ?_)
  refine lv_if_ne (tgt := 38) hx hb dX3_fewest_33 (by decide) (fun c7 => ?_) (fun c7 => ?_)
  · have h := ite_f h c7
    refine lv_aload_n hx hb dX3_fewest_38 rfl (lv_at hl 1 rfl) ?_
    refine lv_aload_n hx hb dX3_fewest_39 rfl (lv_at hl 1 rfl) ?_
    refine lv_aload_n hx hb dX3_fewest_40 rfl (lv_at hl 2 rfl) ?_
    obtain ⟨r8, h_r8, h⟩ := bn1_e h
    refine g_callVi (rest := [.ref (ad q0)]) C0 G hl (ci := 3) rfl (hX.1 _ (xP_l hq0)) (fl := (xFlX3 q0)) ((hX.2.1 _ (xP_l hq0)).trans (xP_s hq0)) (kX3_rowOf_c46 (l := l) C0.2.2.2.2.2.2.1 G.2.2.1 G.2.2.2 hX hq0 h_r8) (cwV 1 C0.2.2.2.2.1 (lw_V q1356 q1357 q1358 q111 q1359) rfl rfl rfl hdX3_rowOf_c46 ⟨Nat.le_of_ble_eq_true rfl, Nat.le_of_ble_eq_true rfl⟩) rfl (Nat.le_of_ble_eq_true rfl) dX3_fewest_41 ⟨Nat.zero_le _, Nat.zero_le _⟩ (fun H locs G => ?_)
    refine lv_aload_n hx hb dX3_fewest_44 rfl (lv_at hl 1 rfl) ?_
    refine lv_aload_n hx hb dX3_fewest_45 rfl (lv_at hl 1 rfl) ?_
    refine g_getC C0 G in_X3 (ci := 3) rfl (hX.1 _ (xP_l hq0)) (fl := (xFlX3 q0)) ((hX.2.1 _ (xP_l hq0)).trans (xP_s hq0)) 17 (by decide) rfl q353 dX3_fewest_46 ?_
    refine g_getCN C0 G in_X0 (ci := 0) rfl (hX.1 0 (by decide)) (fl := xFlX0) ((hX.2.1 0 (by decide)).trans rfl) 2 (by decide) rfl (xn_of C0.2.2.2.2.2.2.2.1 q440 rfl) dX3_fewest_49 ?_
    refine g_getCN C0 G in_X1 (ci := 1) rfl (hX.1 2 (by decide)) (fl := xFlX1) ((hX.2.1 2 (by decide)).trans rfl) 1 (by decide) rfl (xn_of C0.2.2.2.2.2.2.2.1 q197 rfl) dX3_fewest_52 ?_
    obtain ⟨r9, h_r9, h⟩ := bn1_e h
    refine g_callVi (rest := [.int r8, .ref (ad q0)]) C0 G hl (ci := 3) rfl (hX.1 _ (xP_l hq0)) (fl := (xFlX3 q0)) ((hX.2.1 _ (xP_l hq0)).trans (xP_s hq0)) (kX3_rowOf_c4 (l := l) C0.2.2.2.2.2.2.1 G.2.2.1 G.2.2.2 hX hq0 h_r9) (cwV 1 C0.2.2.2.2.1 (lw_V q1356 q1357 q1358 q111 q1359) rfl rfl rfl hdX3_rowOf_c4 ⟨Nat.le_of_ble_eq_true rfl, Nat.le_of_ble_eq_true rfl⟩) rfl (Nat.le_of_ble_eq_true rfl) dX3_fewest_55 ⟨Nat.zero_le _, Nat.zero_le _⟩ (fun H locs G => ?_)
    refine lv_bipush (v := 6) hx hb dX3_fewest_58 (by decide +kernel) ?_
    obtain ⟨r10, σ11, h_r10, h⟩ := bn2_e h
    refine g_callVi (rest := []) C0 G hl (ci := 3) rfl (hX.1 _ (xP_l hq0)) (fl := (xFlX3 q0)) ((hX.2.1 _ (xP_l hq0)).trans (xP_s hq0)) (kX3_lays (l := l) C0.2.2.2.2.2.2.1 G.2.2.1 G.2.2.2 hX hq0 h_r10) (cwV 3 C0.2.2.2.2.1 (lw_V q1360 q1362 qs35 q111 q1363) rfl rfl rfl hdX3_lays ⟨Nat.le_of_ble_eq_true rfl, Nat.le_of_ble_eq_true rfl⟩) rfl (Nat.le_of_ble_eq_true rfl) dX3_fewest_60 ⟨Nat.zero_le _, Nat.zero_le _⟩ (fun H locs G => ?_)
    cases h
    exact Kr _ _ _ _ dX3_fewest_63 G
  · have h := ite_t h c7
    refine lv_iconst (v := (-1)) hx hb dX3_fewest_36 (by decide +kernel) ?_
    cases h
    exact Kr _ _ _ _ dX3_fewest_37 G
theorem kX3_fewest_c46 {l : Launch} {ad : Nat → Nat} {dc : Nat → ClassId} {D : va_G} {A : Nat → Prop} {q0 : Nat} (hi : ∀ i j, ad i = ad j → i = j) (hn : ks.Nodup) (hA : ∀ k, k ∈ ks → A (ad k)) {σ : St} {a2 : Int32} {r : Int32} {σ' : St} (hX : XOK ks sh) (hq0 : isP q0) (h : fX3_fewest_c46 q0 a2 σ = some (r, σ')) : Met l yX3_fewest (ws_ yX3_fewest cX3_fewest 4 (some .int)) RmX3_fewest_c46 (gPc sh ks ad dc D σ [.ref (ad q0), .ref (ad 46), .int a2]) (gQi sh ks ad dc D A σ' r) 0 0 A :=
  g_metI (by decide) rfl hi hn hA (Nat.le_of_ble_eq_true rfl) (fun p e s m below meth c Q C0 Kr ls hl G => wX3_fewest_c46_0 C0 a2 σ hX hq0 (r, σ') h Kr _ _ ls hl G)
-- X0_even
abbrev RmX0_even : Room := { frames := 5, cells := 0, slots := 0, locals := 129 }
theorem hdX0_even : yX0_even.cls = RX0 ∧ yX0_even.cls ≠ "java/lang/invoke/MethodHandle" ∧ yX0_even.cls ≠ "java/lang/invoke/VarHandle" ∧ (parseMethodDescriptor yX0_even.desc).map (fun d => d.parameters.length) = some 0 := by decide +kernel
set_option maxHeartbeats 400000 in
theorem wX0_even_33 (C0 : Cx ad dc D RX0 cX0_even 3 p s m args meth c) (a1 : Int32) (σ : St) (hX : XOK ks sh) (o : ((Int32 × St) ⊕ (St)) ⊕ (Int32 × St)) (h : fX0_even_33 a1 σ = some o) (Kb : ∀ (b1 : Int32) (σ' : St), o = .inr (b1, σ') → ∀ (H : Heap) (locs : List Loc) (ls : Array Slot), lv_has ls 3 [(0, .ref (ad 0)), (1, .int b1)] → GW sh ks ad dc D A s σ' H locs → W p l e RmX0_even s m args below meth c H locs 0 0 Q (F0 m 7 ls [])) (Ke0 : ∀ (b1 : Int32) (σ' : St), o = .inl (.inl (b1, σ')) → ∀ (H : Heap) (locs : List Loc) (ls : Array Slot), lv_has ls 3 [(1, .int b1)] → GW sh ks ad dc D A s σ' H locs → W p l e RmX0_even s m args below meth c H locs 0 0 Q (F0 m 49 ls [])) (Ke1 : ∀  (σ' : St), o = .inl (.inr (σ')) → ∀ (H : Heap) (locs : List Loc) (ls : Array Slot), lv_has ls 3 [] → GW sh ks ad dc D A s σ' H locs → W p l e RmX0_even s m args below meth c H locs 0 0 Q (F0 m 57 ls [])) (H : Heap) (locs : List Loc) (ls : Array Slot) (hl : lv_has ls 3 [(0, .ref (ad 0)), (1, .int a1)]) (G : GW sh ks ad dc D A s σ H locs) : W p l e RmX0_even s m args below meth c H locs 0 0 Q (F0 m 33 ls []) := by
  have hx := C0.1
  have hb := C0.2.1
  unfold fX0_even_33 at h
  refine lv_aload_n hx hb dX0_even_33 rfl (lv_at hl 0 rfl) ?_
  refine g_getC C0 G in_X0 (ci := 0) rfl (hX.1 0 (by decide)) (fl := xFlX0) ((hX.2.1 0 (by decide)).trans rfl) 13 (by decide) rfl q452 dX0_even_34 ?_
  refine lv_aload_n hx hb dX0_even_37 rfl (lv_at hl 0 rfl) ?_
  refine g_getC C0 G in_X0 (ci := 0) rfl (hX.1 0 (by decide)) (fl := xFlX0) ((hX.2.1 0 (by decide)).trans rfl) 16 (by decide) rfl q455 dX0_even_38 ?_
  refine lv_iconst (v := 0) hx hb dX0_even_41 (by decide +kernel) ?_
  obtain ⟨r1, σ2, h_r1, h⟩ := bn2_e h
  refine g_callVi (rest := []) C0 G hl (ci := 3) rfl (hX.1 35 (by decide)) (fl := (xFlX3 35)) ((hX.2.1 35 (by decide)).trans rfl) (kX3_fewest_c46 (l := l) C0.2.2.2.2.2.2.1 G.2.2.1 G.2.2.2 hX isP_35 h_r1) (cwV 2 C0.2.2.2.2.1 (lw_V q1428 q1344 q1345 q111 q1346) rfl rfl rfl hdX3_fewest_c46 ⟨Nat.le_of_ble_eq_true rfl, Nat.le_of_ble_eq_true rfl⟩) rfl (Nat.le_of_ble_eq_true rfl) dX0_even_42 ⟨Nat.zero_le _, Nat.zero_le _⟩ (fun H locs G => ?_)
  refine lv_iconst (v := (-1)) hx hb dX0_even_45 (by decide +kernel) ?_
  refine lv_icmp_eq (tgt := 51) hx hb dX0_even_46 (by decide) (fun c3 => ?_) (fun c3 => ?_)
  · have h := ite_t h c3
    obtain ⟨x4, e_x4⟩ : ∃ z : Int32, z = a1 + 1 := ⟨_, rfl⟩
    have h := letB_e h e_x4
    refine lv_iinc (v := x4) (lv' := [(1, .int x4), (0, .ref (ad 0))]) hx hb dX0_even_51 hl (k := 1) rfl ((congrArg (fun z => a1 + z) (show Int32.ofInt 1 = 1 by decide)).trans e_x4.symm) (by decide) rfl (fun ls hl => ?_)
    refine lv_goto (tgt := 7) hx hb dX0_even_54 (by decide) ?_
    cases h
    exact Kb x4 (σ2) rfl _ _ _ (lv_sub hl [1, 0] rfl) G
  · have h := ite_f h c3
    cases h
    exact Ke0 a1 (σ2) rfl _ _ _ (lv_sub hl [1] rfl) G
set_option maxHeartbeats 400000 in
theorem wbX0_even_15 (C0 : Cx ad dc D RX0 cX0_even 3 p s m args meth c) (a1 : Int32) (a2 : Int32) (σ : St) (hX : XOK ks sh) (o : (St) ⊕ (Int32 × St)) (h : bX0_even_15 a1 a2 σ = some o) (Kb : ∀ (b2 : Int32) (σ' : St), o = .inr (b2, σ') → ∀ (H : Heap) (locs : List Loc) (ls : Array Slot), lv_has ls 3 [(0, .ref (ad 0)), (1, .int a1), (2, .int b2)] → GW sh ks ad dc D A s σ' H locs → W p l e RmX0_even s m args below meth c H locs 0 0 Q (F0 m 15 ls [])) (Ke0 : ∀  (σ' : St), o = .inl (σ') → ∀ (H : Heap) (locs : List Loc) (ls : Array Slot), lv_has ls 3 [(0, .ref (ad 0)), (1, .int a1)] → GW sh ks ad dc D A s σ' H locs → W p l e RmX0_even s m args below meth c H locs 0 0 Q (F0 m 33 ls [])) (H : Heap) (locs : List Loc) (ls : Array Slot) (hl : lv_has ls 3 [(0, .ref (ad 0)), (1, .int a1), (2, .int a2)]) (G : GW sh ks ad dc D A s σ H locs) : W p l e RmX0_even s m args below meth c H locs 0 0 Q (F0 m 15 ls []) := by
  have hx := C0.1
  have hb := C0.2.1
  unfold bX0_even_15 at h
  refine lv_iload_n hx hb dX0_even_15 rfl (lv_at hl 2 rfl) ?_
  refine lv_iconst (v := 5) hx hb dX0_even_16 (by decide +kernel) ?_
  refine lv_icmp_ge (tgt := 33) hx hb dX0_even_17 (by decide) (fun c1 => ?_) (fun c1 => ?_)
  · have h := ite_t h c1
    cases h
    exact Ke0 (σ) rfl _ _ _ (lv_sub hl [0, 1] rfl) G
  · have h := ite_f h c1
    refine lv_aload_n hx hb dX0_even_20 rfl (lv_at hl 0 rfl) ?_
    refine g_getC C0 G in_X0 (ci := 0) rfl (hX.1 0 (by decide)) (fl := xFlX0) ((hX.2.1 0 (by decide)).trans rfl) 16 (by decide) rfl q455 dX0_even_21 ?_
    refine lv_iload_n hx hb dX0_even_24 rfl (lv_at hl 2 rfl) ?_
    refine lv_iload_n hx hb dX0_even_25 rfl (lv_at hl 1 rfl) ?_
    obtain ⟨b_2, h⟩ := ckB_e h
    refine g_iast C0 G (n := 5) (hX.1 46 (by decide)) ((hX.2.1 46 (by decide)).trans rfl) b_2 dX0_even_26 (fun σ3 H locs e_σ3 G => ?_)
    have h := letB_e h e_σ3
    obtain ⟨x4, e_x4⟩ : ∃ z : Int32, z = a2 + 1 := ⟨_, rfl⟩
    have h := letB_e h e_x4
    refine lv_iinc (v := x4) (lv' := [(2, .int x4), (0, .ref (ad 0)), (1, .int a1)]) hx hb dX0_even_27 hl (k := 2) rfl ((congrArg (fun z => a2 + z) (show Int32.ofInt 1 = 1 by decide)).trans e_x4.symm) (by decide) rfl (fun ls hl => ?_)
    refine lv_goto (tgt := 15) hx hb dX0_even_30 (by decide) ?_
    cases h
    exact Kb x4 (σ3) rfl _ _ _ (lv_sub hl [1, 2, 0] rfl) G
set_option maxHeartbeats 400000 in
theorem lX0_even_15 (C0 : Cx ad dc D RX0 cX0_even 3 p s m args meth c) (a1 : Int32)  (hX : XOK ks sh) : ∀ (n : Nat) (a2 : Int32) (σ : St) (ex : St) (h : iter (fun v : Int32 × St => bX0_even_15 a1 v.1 v.2) n (a2, σ) = some ex) (Ke0 : ∀  (σ' : St), ex = σ' → ∀ (H : Heap) (locs : List Loc) (ls : Array Slot), lv_has ls 3 [(0, .ref (ad 0)), (1, .int a1)] → GW sh ks ad dc D A s σ' H locs → W p l e RmX0_even s m args below meth c H locs 0 0 Q (F0 m 33 ls [])) (H : Heap) (locs : List Loc) (ls : Array Slot) (hl : lv_has ls 3 [(0, .ref (ad 0)), (1, .int a1), (2, .int a2)]) (G : GW sh ks ad dc D A s σ H locs), W p l e RmX0_even s m args below meth c H locs 0 0 Q (F0 m 15 ls []) := by
  intro n
  induction n with
  | zero =>
    intro a2 σ ex h
    cases h
  | succ n ih =>
    intro a2 σ ex h Ke0 H locs ls hl G
    obtain ⟨r, hb1, hr⟩ := iter_e h
    refine wbX0_even_15 C0 a1 a2 σ hX r hb1 ?_ ?_ H locs ls hl G
    · intro b2 σ' hv H locs ls hl G
      subst hv
      rcases hr with hr | ⟨a', hr, h2⟩
      · cases hr
      · rw [← Sum.inr.inj hr] at h2
        exact ih b2 σ' ex h2 Ke0 H locs ls hl G
    · intro σ' hv H locs ls hl G
      subst hv
      rcases hr with hr | ⟨a', hr, h2⟩
      · exact Ke0 σ' (Sum.inl.inj hr).symm H locs ls hl G
      · cases hr
set_option maxHeartbeats 400000 in
theorem wX0_even_15 (C0 : Cx ad dc D RX0 cX0_even 3 p s m args meth c) (a1 : Int32) (a2 : Int32) (σ : St) (hX : XOK ks sh) (o : ((Int32 × St) ⊕ (St)) ⊕ (Int32 × St)) (h : fX0_even_15 a1 a2 σ = some o) (Kb : ∀ (b1 : Int32) (σ' : St), o = .inr (b1, σ') → ∀ (H : Heap) (locs : List Loc) (ls : Array Slot), lv_has ls 3 [(0, .ref (ad 0)), (1, .int b1)] → GW sh ks ad dc D A s σ' H locs → W p l e RmX0_even s m args below meth c H locs 0 0 Q (F0 m 7 ls [])) (Ke0 : ∀ (b1 : Int32) (σ' : St), o = .inl (.inl (b1, σ')) → ∀ (H : Heap) (locs : List Loc) (ls : Array Slot), lv_has ls 3 [(1, .int b1)] → GW sh ks ad dc D A s σ' H locs → W p l e RmX0_even s m args below meth c H locs 0 0 Q (F0 m 49 ls [])) (Ke1 : ∀  (σ' : St), o = .inl (.inr (σ')) → ∀ (H : Heap) (locs : List Loc) (ls : Array Slot), lv_has ls 3 [] → GW sh ks ad dc D A s σ' H locs → W p l e RmX0_even s m args below meth c H locs 0 0 Q (F0 m 57 ls [])) (H : Heap) (locs : List Loc) (ls : Array Slot) (hl : lv_has ls 3 [(0, .ref (ad 0)), (1, .int a1), (2, .int a2)]) (G : GW sh ks ad dc D A s σ H locs) : W p l e RmX0_even s m args below meth c H locs 0 0 Q (F0 m 15 ls []) := by
  have hx := C0.1
  have hb := C0.2.1
  unfold fX0_even_15 at h
  obtain ⟨ex, h1, h⟩ := bn1_e h
  refine lX0_even_15 C0 a1  hX FU a2 σ ex h1 ?_ H locs ls hl G
  · intro σ' hv H locs ls hl G
    rw [hv] at h
    have h : (fX0_even_33 a1 (σ')) = some o := h
    exact wX0_even_33 C0 a1 (σ') hX _ h Kb Ke0 Ke1 _ _ _ hl G
set_option maxHeartbeats 400000 in
theorem wbX0_even_7 (C0 : Cx ad dc D RX0 cX0_even 3 p s m args meth c) (a1 : Int32) (σ : St) (hX : XOK ks sh) (o : ((Int32 × St) ⊕ (St)) ⊕ (Int32 × St)) (h : bX0_even_7 a1 σ = some o) (Kb : ∀ (b1 : Int32) (σ' : St), o = .inr (b1, σ') → ∀ (H : Heap) (locs : List Loc) (ls : Array Slot), lv_has ls 3 [(0, .ref (ad 0)), (1, .int b1)] → GW sh ks ad dc D A s σ' H locs → W p l e RmX0_even s m args below meth c H locs 0 0 Q (F0 m 7 ls [])) (Ke0 : ∀ (b1 : Int32) (σ' : St), o = .inl (.inl (b1, σ')) → ∀ (H : Heap) (locs : List Loc) (ls : Array Slot), lv_has ls 3 [(1, .int b1)] → GW sh ks ad dc D A s σ' H locs → W p l e RmX0_even s m args below meth c H locs 0 0 Q (F0 m 49 ls [])) (Ke1 : ∀  (σ' : St), o = .inl (.inr (σ')) → ∀ (H : Heap) (locs : List Loc) (ls : Array Slot), lv_has ls 3 [] → GW sh ks ad dc D A s σ' H locs → W p l e RmX0_even s m args below meth c H locs 0 0 Q (F0 m 57 ls [])) (H : Heap) (locs : List Loc) (ls : Array Slot) (hl : lv_has ls 3 [(0, .ref (ad 0)), (1, .int a1)]) (G : GW sh ks ad dc D A s σ H locs) : W p l e RmX0_even s m args below meth c H locs 0 0 Q (F0 m 7 ls []) := by
  have hx := C0.1
  have hb := C0.2.1
  unfold bX0_even_7 at h
  refine lv_iload_n hx hb dX0_even_7 rfl (lv_at hl 1 rfl) ?_
  refine lv_bipush (v := 9) hx hb dX0_even_8 (by decide +kernel) ?_
  refine lv_icmp_gt (tgt := 57) hx hb dX0_even_10 (by decide) (fun c1 => ?_) (fun c1 => ?_)
  · have h := ite_t h c1
    cases h
    exact Ke1 (σ) rfl _ _ _ (lv_sub hl [] rfl) G
  · have h := ite_f h c1
    refine lv_iconst (v := 0) hx hb dX0_even_13 (by decide +kernel) ?_
    refine lv_istore_n (lv' := [(2, .int 0), (0, .ref (ad 0)), (1, .int a1)]) hx hb dX0_even_14 rfl hl (by decide) rfl (fun ls hl => ?_)
    exact wX0_even_15 C0 a1 0 (σ) hX _ h Kb Ke0 Ke1 _ _ _ (lv_sub hl [1, 2, 0] rfl) G
set_option maxHeartbeats 400000 in
theorem lX0_even_7 (C0 : Cx ad dc D RX0 cX0_even 3 p s m args meth c)   (hX : XOK ks sh) : ∀ (n : Nat) (a1 : Int32) (σ : St) (ex : (Int32 × St) ⊕ (St)) (h : iter (fun v : Int32 × St => bX0_even_7 v.1 v.2) n (a1, σ) = some ex) (Ke0 : ∀ (b1 : Int32) (σ' : St), ex = (.inl (b1, σ')) → ∀ (H : Heap) (locs : List Loc) (ls : Array Slot), lv_has ls 3 [(1, .int b1)] → GW sh ks ad dc D A s σ' H locs → W p l e RmX0_even s m args below meth c H locs 0 0 Q (F0 m 49 ls [])) (Ke1 : ∀  (σ' : St), ex = (.inr (σ')) → ∀ (H : Heap) (locs : List Loc) (ls : Array Slot), lv_has ls 3 [] → GW sh ks ad dc D A s σ' H locs → W p l e RmX0_even s m args below meth c H locs 0 0 Q (F0 m 57 ls [])) (H : Heap) (locs : List Loc) (ls : Array Slot) (hl : lv_has ls 3 [(0, .ref (ad 0)), (1, .int a1)]) (G : GW sh ks ad dc D A s σ H locs), W p l e RmX0_even s m args below meth c H locs 0 0 Q (F0 m 7 ls []) := by
  intro n
  induction n with
  | zero =>
    intro a1 σ ex h
    cases h
  | succ n ih =>
    intro a1 σ ex h Ke0 Ke1 H locs ls hl G
    obtain ⟨r, hb1, hr⟩ := iter_e h
    refine wbX0_even_7 C0 a1 σ hX r hb1 ?_ ?_ ?_ H locs ls hl G
    · intro b1 σ' hv H locs ls hl G
      subst hv
      rcases hr with hr | ⟨a', hr, h2⟩
      · cases hr
      · rw [← Sum.inr.inj hr] at h2
        exact ih b1 σ' ex h2 Ke0 Ke1 H locs ls hl G
    · intro b1 σ' hv H locs ls hl G
      subst hv
      rcases hr with hr | ⟨a', hr, h2⟩
      · exact Ke0 b1 σ' (Sum.inl.inj hr).symm H locs ls hl G
      · cases hr
    · intro σ' hv H locs ls hl G
      subst hv
      rcases hr with hr | ⟨a', hr, h2⟩
      · exact Ke1 σ' (Sum.inl.inj hr).symm H locs ls hl G
      · cases hr
set_option maxHeartbeats 400000 in
theorem wX0_even_7 (C0 : Cx ad dc D RX0 cX0_even 3 p s m args meth c) (a1 : Int32) (σ : St) (hX : XOK ks sh) (o : Int32 × St) (h : fX0_even_7 a1 σ = some o) (Kr : KrI p l e RmX0_even s m args below meth c cX0_even Q (GW sh ks ad dc D A s (o.2)) o.1) (H : Heap) (locs : List Loc) (ls : Array Slot) (hl : lv_has ls 3 [(0, .ref (ad 0)), (1, .int a1)]) (G : GW sh ks ad dc D A s σ H locs) : W p l e RmX0_even s m args below meth c H locs 0 0 Q (F0 m 7 ls []) := by
  have hx := C0.1
  have hb := C0.2.1
  unfold fX0_even_7 at h
  obtain ⟨ex, h1, h⟩ := bn1_e h
  refine lX0_even_7 C0   hX FU a1 σ ex h1 ?_ ?_ H locs ls hl G
  · intro b1 σ' hv H locs ls hl G
    rw [hv] at h
    have h : (some (b1, σ')) = some o := h
    refine lv_iload_n hx hb dX0_even_49 rfl (lv_at hl 0 rfl) ?_
    cases h
    exact Kr _ _ _ _ dX0_even_50 G
  · intro σ' hv H locs ls hl G
    rw [hv] at h
    have h : (some ((-1), σ')) = some o := h
    refine lv_iconst (v := (-1)) hx hb dX0_even_57 (by decide +kernel) ?_
    cases h
    exact Kr _ _ _ _ dX0_even_58 G
set_option maxHeartbeats 400000 in
theorem wX0_even_0 (C0 : Cx ad dc D RX0 cX0_even 3 p s m args meth c) (σ : St) (hX : XOK ks sh) (o : Int32 × St) (h : fX0_even σ = some o) (Kr : KrI p l e RmX0_even s m args below meth c cX0_even Q (GW sh ks ad dc D A s (o.2)) o.1) (H : Heap) (locs : List Loc) (ls : Array Slot) (hl : lv_has ls 3 [(0, .ref (ad 0))]) (G : GW sh ks ad dc D A s σ H locs) : W p l e RmX0_even s m args below meth c H locs 0 0 Q (F0 m 0 ls []) := by
  have hx := C0.1
  have hb := C0.2.1
  unfold fX0_even at h
  refine lv_aload_n hx hb dX0_even_0 rfl (lv_at hl 0 rfl) ?_
  refine lv_iconst (v := (-1)) hx hb dX0_even_1 (by decide +kernel) ?_
  refine g_putI C0 G in_X0 tyX0_ok nmX0 (ci := 0) rfl (hX.1 0 (by decide)) (fl := xFlX0) ((hX.2.1 0 (by decide)).trans rfl) 14 (by decide) rfl q453 rfl dX0_even_2 ⟨rfl, rfl⟩ (fun σ1 H locs e_σ1 G => ?_)
  have h := letB_e h e_σ1
  refine lv_iconst (v := 1) hx hb dX0_even_5 (by decide +kernel) ?_
  refine lv_istore_n (lv' := [(1, .int 1), (0, .ref (ad 0))]) hx hb dX0_even_6 rfl hl (by decide) rfl (fun ls hl => ?_)
  exact wX0_even_7 C0 1 (σ1) hX _ h Kr _ _ _ (lv_sub hl [1, 0] rfl) G
theorem kX0_even {l : Launch} {ad : Nat → Nat} {dc : Nat → ClassId} {D : va_G} {A : Nat → Prop}  (hi : ∀ i j, ad i = ad j → i = j) (hn : ks.Nodup) (hA : ∀ k, k ∈ ks → A (ad k)) {σ : St}  {r : Int32} {σ' : St} (hX : XOK ks sh) (h : fX0_even σ = some (r, σ')) : Met l yX0_even (ws_ yX0_even cX0_even 3 (some .int)) RmX0_even (gPc sh ks ad dc D σ [.ref (ad 0)]) (gQi sh ks ad dc D A σ' r) 0 0 A :=
  g_metI (by decide) rfl hi hn hA (Nat.le_of_ble_eq_true rfl) (fun p e s m below meth c Q C0 Kr ls hl G => wX0_even_0 C0  σ hX (r, σ') h Kr _ _ ls hl G)
-- X0_striker
abbrev RmX0_striker : Room := { frames := 6, cells := 0, slots := 0, locals := 152 }
theorem hdX0_striker : yX0_striker.cls = RX0 ∧ yX0_striker.cls ≠ "java/lang/invoke/MethodHandle" ∧ yX0_striker.cls ≠ "java/lang/invoke/VarHandle" ∧ (parseMethodDescriptor yX0_striker.desc).map (fun d => d.parameters.length) = some 0 := by decide +kernel
set_option maxHeartbeats 400000 in
theorem wX0_striker_0 (C0 : Cx ad dc D RX0 cX0_striker 2 p s m args meth c) (σ : St) (hX : XOK ks sh) (o : Int32 × St) (h : fX0_striker σ = some o) (Kr : KrI p l e RmX0_striker s m args below meth c cX0_striker Q (GW sh ks ad dc D A s (o.2)) o.1) (H : Heap) (locs : List Loc) (ls : Array Slot) (hl : lv_has ls 2 [(0, .ref (ad 0))]) (G : GW sh ks ad dc D A s σ H locs) : W p l e RmX0_striker s m args below meth c H locs 0 0 Q (F0 m 0 ls []) := by
  have hx := C0.1
  have hb := C0.2.1
  unfold fX0_striker at h
  refine lv_aload_n hx hb dX0_striker_0 rfl (lv_at hl 0 rfl) ?_
  refine g_getC C0 G in_X0 (ci := 0) rfl (hX.1 0 (by decide)) (fl := xFlX0) ((hX.2.1 0 (by decide)).trans rfl) 12 (by decide) rfl q451 dX0_striker_1 ?_
  obtain ⟨σ2, h_r1, h⟩ := bn1_e h
  refine g_callVv (rest := []) C0 G hl (ci := 3) rfl (hX.1 24 (by decide)) (fl := (xFlX3 24)) ((hX.2.1 24 (by decide)).trans rfl) (kX3_looks (l := l) C0.2.2.2.2.2.2.1 G.2.2.1 G.2.2.2 hX isP_24 h_r1) (cwV 0 C0.2.2.2.2.1 (lw_V q1339 q1340 q1341 q111 q1342) rfl rfl rfl hdX3_looks ⟨Nat.le_of_ble_eq_true rfl, Nat.le_of_ble_eq_true rfl⟩) rfl (Nat.le_of_ble_eq_true rfl) dX0_striker_4 ⟨Nat.zero_le _, Nat.zero_le _⟩ (fun H locs G => ?_)
  refine lv_aload_n hx hb dX0_striker_7 rfl (lv_at hl 0 rfl) ?_
  refine lv_iconst (v := (-1)) hx hb dX0_striker_8 (by decide +kernel) ?_
  refine g_putI C0 G in_X0 tyX0_ok nmX0 (ci := 0) rfl (hX.1 0 (by decide)) (fl := xFlX0) ((hX.2.1 0 (by decide)).trans rfl) 14 (by decide) rfl q453 rfl dX0_striker_9 ⟨rfl, rfl⟩ (fun σ3 H locs e_σ3 G => ?_)
  have h := letB_e h e_σ3
  refine lv_aload_n hx hb dX0_striker_12 rfl (lv_at hl 0 rfl) ?_
  refine g_getC C0 G in_X0 (ci := 0) rfl (hX.1 0 (by decide)) (fl := xFlX0) ((hX.2.1 0 (by decide)).trans rfl) 13 (by decide) rfl q452 dX0_striker_13 ?_
  refine lv_aload_n hx hb dX0_striker_16 rfl (lv_at hl 0 rfl) ?_
  refine g_getC C0 G in_X0 (ci := 0) rfl (hX.1 0 (by decide)) (fl := xFlX0) ((hX.2.1 0 (by decide)).trans rfl) 2 (by decide) rfl q438 dX0_striker_17 ?_
  refine g_getCN C0 G in_X1 (ci := 1) rfl (hX.1 2 (by decide)) (fl := xFlX1) ((hX.2.1 2 (by decide)).trans rfl) 0 (by decide) rfl (xn_of C0.2.2.2.2.2.2.2.1 q193 rfl) dX0_striker_20 ?_
  refine lv_iconst (v := 1) hx hb dX0_striker_23 (by decide +kernel) ?_
  obtain ⟨r4, σ5, h_r4, h⟩ := bn2_e h
  refine g_callVi (rest := []) C0 G hl (ci := 3) rfl (hX.1 35 (by decide)) (fl := (xFlX3 35)) ((hX.2.1 35 (by decide)).trans rfl) (kX3_fewest_c3 (l := l) C0.2.2.2.2.2.2.1 G.2.2.1 G.2.2.2 hX isP_35 h_r4) (cwV 2 C0.2.2.2.2.1 (lw_V q1428 q1344 q1345 q111 q1346) rfl rfl rfl hdX3_fewest_c3 ⟨Nat.le_of_ble_eq_true rfl, Nat.le_of_ble_eq_true rfl⟩) rfl (Nat.le_of_ble_eq_true rfl) dX0_striker_24 ⟨Nat.zero_le _, Nat.zero_le _⟩ (fun H locs G => ?_)
  refine lv_istore_n (lv' := [(1, .int r4), (0, .ref (ad 0))]) hx hb dX0_striker_27 rfl hl (by decide) rfl (fun ls hl => ?_)
  refine lv_aload_n hx hb dX0_striker_28 rfl (lv_at hl 1 rfl) ?_
  refine g_getC C0 G in_X0 (ci := 0) rfl (hX.1 0 (by decide)) (fl := xFlX0) ((hX.2.1 0 (by decide)).trans rfl) 12 (by decide) rfl q451 dX0_striker_29 ?_
  refine g_getIN C0 G in_X3 (ci := 3) rfl (hX.1 24 (by decide)) (fl := (xFlX3 24)) ((hX.2.1 24 (by decide)).trans rfl) 15 (by decide) rfl (xn_of C0.2.2.2.2.2.2.2.1 q351 rfl) dX0_striker_32 ?_
  refine lv_iconst (v := (-1)) hx hb dX0_striker_35 (by decide +kernel) ?_
  refine lv_icmp_eq (tgt := 44) hx hb dX0_striker_36 (by decide) (fun c6 => ?_) (fun c6 => ?_)
  · have h := ite_t h c6
    refine lv_iconst (v := (-1)) hx hb dX0_striker_44 (by decide +kernel) ?_
    refine lv_goto (tgt := 57) hx hb dX0_striker_45 (by decide) ?_
    cases h
    exact Kr _ _ _ _ dX0_striker_57 G
  · have h := ite_f h c6
    refine lv_iload_n hx hb dX0_striker_39 rfl (lv_at hl 0 rfl) ?_
    refine lv_iconst (v := (-1)) hx hb dX0_striker_40 (by decide +kernel) ?_
    refine lv_icmp_ne (tgt := 48) hx hb dX0_striker_41 (by decide) (fun c7 => ?_) (fun c7 => ?_)
    · have h := ite_f h c7
      refine lv_aload_n hx hb dX0_striker_48 rfl (lv_at hl 1 rfl) ?_
      refine g_getC C0 G in_X0 (ci := 0) rfl (hX.1 0 (by decide)) (fl := xFlX0) ((hX.2.1 0 (by decide)).trans rfl) 12 (by decide) rfl q451 dX0_striker_49 ?_
      refine g_getIN C0 G in_X3 (ci := 3) rfl (hX.1 24 (by decide)) (fl := (xFlX3 24)) ((hX.2.1 24 (by decide)).trans rfl) 15 (by decide) rfl (xn_of C0.2.2.2.2.2.2.2.1 q351 rfl) dX0_striker_52 ?_
      refine lv_iload_n hx hb dX0_striker_55 rfl (lv_at hl 0 rfl) ?_
      refine lv_isub hx hb dX0_striker_56 ?_
      cases h
      exact Kr _ _ _ _ dX0_striker_57 G
    · have h := ite_t h c7
      refine lv_iconst (v := (-1)) hx hb dX0_striker_44 (by decide +kernel) ?_
      refine lv_goto (tgt := 57) hx hb dX0_striker_45 (by decide) ?_
      cases h
      exact Kr _ _ _ _ dX0_striker_57 G
theorem kX0_striker {l : Launch} {ad : Nat → Nat} {dc : Nat → ClassId} {D : va_G} {A : Nat → Prop}  (hi : ∀ i j, ad i = ad j → i = j) (hn : ks.Nodup) (hA : ∀ k, k ∈ ks → A (ad k)) {σ : St}  {r : Int32} {σ' : St} (hX : XOK ks sh) (h : fX0_striker σ = some (r, σ')) : Met l yX0_striker (ws_ yX0_striker cX0_striker 2 (some .int)) RmX0_striker (gPc sh ks ad dc D σ [.ref (ad 0)]) (gQi sh ks ad dc D A σ' r) 0 0 A :=
  g_metI (by decide) rfl hi hn hA (Nat.le_of_ble_eq_true rfl) (fun p e s m below meth c Q C0 Kr ls hl G => wX0_striker_0 C0  σ hX (r, σ') h Kr _ _ ls hl G)
-- X0_apart
abbrev RmX0_apart : Room := { frames := 1, cells := 0, slots := 0, locals := 30 }
theorem hdX0_apart : yX0_apart.cls = RX0 ∧ yX0_apart.cls ≠ "java/lang/invoke/MethodHandle" ∧ yX0_apart.cls ≠ "java/lang/invoke/VarHandle" ∧ (parseMethodDescriptor yX0_apart.desc).map (fun d => d.parameters.length) = some 2 := by decide +kernel
set_option maxHeartbeats 400000 in
theorem wbX0_apart_5 (C0 : Cx ad dc D RX0 cX0_apart 5 p s m args meth c) (a1 : Int32) (a2 : Int32) (a3 : Int32) (a4 : Int32) (σ : St) (hX : XOK ks sh) (o : (Int32) ⊕ (Int32 × Int32)) (h : bX0_apart_5 a1 a2 a3 a4 σ = some o) (Kb : ∀ (b3 : Int32) (b4 : Int32), o = .inr (b3, b4) → ∀ (H : Heap) (locs : List Loc) (ls : Array Slot), lv_has ls 5 [(0, .ref (ad 0)), (1, .int a1), (2, .int a2), (3, .int b3), (4, .int b4)] → GW sh ks ad dc D A s σ H locs → W p l e RmX0_apart s m args below meth c H locs 0 0 Q (F0 m 5 ls [])) (Ke0 : ∀ (b3 : Int32), o = .inl b3 → ∀ (H : Heap) (locs : List Loc) (ls : Array Slot), lv_has ls 5 [(3, .int b3)] → GW sh ks ad dc D A s σ H locs → W p l e RmX0_apart s m args below meth c H locs 0 0 Q (F0 m 52 ls [])) (H : Heap) (locs : List Loc) (ls : Array Slot) (hl : lv_has ls 5 [(0, .ref (ad 0)), (1, .int a1), (2, .int a2), (3, .int a3), (4, .int a4)]) (G : GW sh ks ad dc D A s σ H locs) : W p l e RmX0_apart s m args below meth c H locs 0 0 Q (F0 m 5 ls []) := by
  have hx := C0.1
  have hb := C0.2.1
  unfold bX0_apart_5 at h
  refine lv_iload hx hb dX0_apart_5 (lv_at hl 4 rfl) ?_
  refine lv_aload_n hx hb dX0_apart_7 rfl (lv_at hl 0 rfl) ?_
  refine g_getC C0 G in_X0 (ci := 0) rfl (hX.1 0 (by decide)) (fl := xFlX0) ((hX.2.1 0 (by decide)).trans rfl) 2 (by decide) rfl q438 dX0_apart_8 ?_
  refine g_getIN C0 G in_X1 (ci := 1) rfl (hX.1 2 (by decide)) (fl := xFlX1) ((hX.2.1 2 (by decide)).trans rfl) 5 (by decide) rfl (xn_of C0.2.2.2.2.2.2.2.1 q208 rfl) dX0_apart_11 ?_
  refine lv_icmp_ge (tgt := 52) hx hb dX0_apart_14 (by decide) (fun c1 => ?_) (fun c1 => ?_)
  · have h := ite_t h c1
    cases h
    exact Ke0 a3 rfl _ _ _ (lv_sub hl [3] rfl) G
  · have h := ite_f h c1
    refine lv_iload_n hx hb dX0_apart_17 rfl (lv_at hl 3 rfl) ?_
    refine lv_aload_n hx hb dX0_apart_18 rfl (lv_at hl 0 rfl) ?_
    refine g_getC C0 G in_X0 (ci := 0) rfl (hX.1 0 (by decide)) (fl := xFlX0) ((hX.2.1 0 (by decide)).trans rfl) 17 (by decide) rfl q456 dX0_apart_19 ?_
    refine lv_iconst (v := 5) hx hb dX0_apart_22 (by decide +kernel) ?_
    refine lv_iload_n hx hb dX0_apart_23 rfl (lv_at hl 1 rfl) ?_
    refine lv_imul hx hb dX0_apart_24 ?_
    refine lv_iload hx hb dX0_apart_25 (lv_at hl 4 rfl) ?_
    refine lv_iadd hx hb dX0_apart_27 ?_
    obtain ⟨b_2, h⟩ := ckB_e h
    refine g_iald C0 G (n := 60) (hX.1 47 (by decide)) ((hX.2.1 47 (by decide)).trans rfl) b_2 dX0_apart_28 ?_
    refine lv_aload_n hx hb dX0_apart_29 rfl (lv_at hl 0 rfl) ?_
    refine g_getC C0 G in_X0 (ci := 0) rfl (hX.1 0 (by decide)) (fl := xFlX0) ((hX.2.1 0 (by decide)).trans rfl) 17 (by decide) rfl q456 dX0_apart_30 ?_
    refine lv_iconst (v := 5) hx hb dX0_apart_33 (by decide +kernel) ?_
    refine lv_iload_n hx hb dX0_apart_34 rfl (lv_at hl 2 rfl) ?_
    refine lv_imul hx hb dX0_apart_35 ?_
    refine lv_iload hx hb dX0_apart_36 (lv_at hl 4 rfl) ?_
    refine lv_iadd hx hb dX0_apart_38 ?_
    obtain ⟨b_3, h⟩ := ckB_e h
    refine g_iald C0 G (n := 60) (hX.1 47 (by decide)) ((hX.2.1 47 (by decide)).trans rfl) b_3 dX0_apart_39 ?_
    refine lv_isub hx hb dX0_apart_40 ?_
    refine va_mabs hx hb (C0.2.2.1.trans hl.1.symm) C0.2.2.2.1 (C0.2.2.2.2.1 _ q1460) (C0.2.2.2.2.1 _ q1299) (C0.2.2.2.2.1 _ q145) (C0.2.2.2.2.1 _ q1300) (Nat.le_of_ble_eq_true rfl) (Nat.le_of_ble_eq_true rfl) (Nat.zero_le _) (Nat.zero_le _) dX0_apart_41 ?_
    refine lv_iadd hx hb dX0_apart_44 ?_
    refine lv_topi (fun x4 e_x4 => ?_)
    have h := letB_e h e_x4
    refine lv_istore_n (lv' := [(3, .int x4), (0, .ref (ad 0)), (1, .int a1), (2, .int a2), (4, .int a4)]) hx hb dX0_apart_45 rfl hl (by decide) rfl (fun ls hl => ?_)
    obtain ⟨x5, e_x5⟩ : ∃ z : Int32, z = a4 + 1 := ⟨_, rfl⟩
    have h := letB_e h e_x5
    refine lv_iinc (v := x5) (lv' := [(4, .int x5), (3, .int x4), (0, .ref (ad 0)), (1, .int a1), (2, .int a2)]) hx hb dX0_apart_46 hl (k := 4) rfl ((congrArg (fun z => a4 + z) (show Int32.ofInt 1 = 1 by decide)).trans e_x5.symm) (by decide) rfl (fun ls hl => ?_)
    refine lv_goto (tgt := 5) hx hb dX0_apart_49 (by decide) ?_
    cases h
    exact Kb x4 x5 rfl _ _ _ (lv_sub hl [2, 3, 4, 1, 0] rfl) G
set_option maxHeartbeats 400000 in
theorem lX0_apart_5 (C0 : Cx ad dc D RX0 cX0_apart 5 p s m args meth c) (a1 : Int32) (a2 : Int32) (σ : St) (hX : XOK ks sh) : ∀ (n : Nat) (a3 : Int32) (a4 : Int32) (ex : Int32) (h : iter (fun v : Int32 × Int32 => bX0_apart_5 a1 a2 v.1 v.2 σ) n (a3, a4) = some ex) (Ke0 : ∀ (b3 : Int32), ex = b3 → ∀ (H : Heap) (locs : List Loc) (ls : Array Slot), lv_has ls 5 [(3, .int b3)] → GW sh ks ad dc D A s σ H locs → W p l e RmX0_apart s m args below meth c H locs 0 0 Q (F0 m 52 ls [])) (H : Heap) (locs : List Loc) (ls : Array Slot) (hl : lv_has ls 5 [(0, .ref (ad 0)), (1, .int a1), (2, .int a2), (3, .int a3), (4, .int a4)]) (G : GW sh ks ad dc D A s σ H locs), W p l e RmX0_apart s m args below meth c H locs 0 0 Q (F0 m 5 ls []) := by
  intro n
  induction n with
  | zero =>
    intro a3 a4 ex h
    cases h
  | succ n ih =>
    intro a3 a4 ex h Ke0 H locs ls hl G
    obtain ⟨r, hb1, hr⟩ := iter_e h
    refine wbX0_apart_5 C0 a1 a2 a3 a4 σ hX r hb1 ?_ ?_ H locs ls hl G
    · intro b3 b4 hv H locs ls hl G
      subst hv
      rcases hr with hr | ⟨a', hr, h2⟩
      · cases hr
      · rw [← Sum.inr.inj hr] at h2
        exact ih b3 b4 ex h2 Ke0 H locs ls hl G
    · intro b3 hv H locs ls hl G
      subst hv
      rcases hr with hr | ⟨a', hr, h2⟩
      · exact Ke0 b3 (Sum.inl.inj hr).symm H locs ls hl G
      · cases hr
set_option maxHeartbeats 400000 in
theorem wX0_apart_5 (C0 : Cx ad dc D RX0 cX0_apart 5 p s m args meth c) (a1 : Int32) (a2 : Int32) (a3 : Int32) (a4 : Int32) (σ : St) (hX : XOK ks sh) (o : Int32) (h : fX0_apart_5 a1 a2 a3 a4 σ = some o) (Kr : KrI p l e RmX0_apart s m args below meth c cX0_apart Q (GW sh ks ad dc D A s (σ)) o) (H : Heap) (locs : List Loc) (ls : Array Slot) (hl : lv_has ls 5 [(0, .ref (ad 0)), (1, .int a1), (2, .int a2), (3, .int a3), (4, .int a4)]) (G : GW sh ks ad dc D A s σ H locs) : W p l e RmX0_apart s m args below meth c H locs 0 0 Q (F0 m 5 ls []) := by
  have hx := C0.1
  have hb := C0.2.1
  unfold fX0_apart_5 at h
  obtain ⟨ex, h1, h⟩ := bn1_e h
  refine lX0_apart_5 C0 a1 a2 σ hX FU a3 a4 ex h1 ?_ H locs ls hl G
  · intro b3 hv H locs ls hl G
    rw [hv] at h
    have h : (some b3) = some o := h
    refine lv_iload_n hx hb dX0_apart_52 rfl (lv_at hl 0 rfl) ?_
    cases h
    exact Kr _ _ _ _ dX0_apart_53 G
set_option maxHeartbeats 400000 in
theorem wX0_apart_0 (C0 : Cx ad dc D RX0 cX0_apart 5 p s m args meth c) (a1 : Int32) (a2 : Int32) (σ : St) (hX : XOK ks sh) (o : Int32) (h : fX0_apart a1 a2 σ = some o) (Kr : KrI p l e RmX0_apart s m args below meth c cX0_apart Q (GW sh ks ad dc D A s (σ)) o) (H : Heap) (locs : List Loc) (ls : Array Slot) (hl : lv_has ls 5 [(0, .ref (ad 0)), (1, .int a1), (2, .int a2)]) (G : GW sh ks ad dc D A s σ H locs) : W p l e RmX0_apart s m args below meth c H locs 0 0 Q (F0 m 0 ls []) := by
  have hx := C0.1
  have hb := C0.2.1
  unfold fX0_apart at h
  refine lv_iconst (v := 0) hx hb dX0_apart_0 (by decide +kernel) ?_
  refine lv_istore_n (lv' := [(3, .int 0), (0, .ref (ad 0)), (1, .int a1), (2, .int a2)]) hx hb dX0_apart_1 rfl hl (by decide) rfl (fun ls hl => ?_)
  refine lv_iconst (v := 0) hx hb dX0_apart_2 (by decide +kernel) ?_
  refine lv_istore (lv' := [(4, .int 0), (3, .int 0), (0, .ref (ad 0)), (1, .int a1), (2, .int a2)]) hx hb dX0_apart_3 hl (by decide) rfl (fun ls hl => ?_)
  exact wX0_apart_5 C0 a1 a2 0 0 (σ) hX _ h Kr _ _ _ (lv_sub hl [2, 3, 4, 1, 0] rfl) G
theorem kX0_apart {l : Launch} {ad : Nat → Nat} {dc : Nat → ClassId} {D : va_G} {A : Nat → Prop}  (hi : ∀ i j, ad i = ad j → i = j) (hn : ks.Nodup) (hA : ∀ k, k ∈ ks → A (ad k)) {σ : St} {a1 : Int32} {a2 : Int32} {r : Int32} (hX : XOK ks sh) (h : fX0_apart a1 a2 σ = some r) : Met l yX0_apart (ws_ yX0_apart cX0_apart 5 (some .int)) RmX0_apart (gPc sh ks ad dc D σ [.ref (ad 0), .int a1, .int a2]) (gQi sh ks ad dc D A σ r) 0 0 A :=
  g_metI (by decide) rfl hi hn hA (Nat.le_of_ble_eq_true rfl) (fun p e s m below meth c Q C0 Kr ls hl G => wX0_apart_0 C0 a1 a2 σ hX r h Kr _ _ ls hl G)
-- X0_status
abbrev RmX0_status : Room := { frames := 0, cells := 0, slots := 0, locals := 0 }
theorem hdX0_status : yX0_status.cls = RX0 ∧ yX0_status.cls ≠ "java/lang/invoke/MethodHandle" ∧ yX0_status.cls ≠ "java/lang/invoke/VarHandle" ∧ (parseMethodDescriptor yX0_status.desc).map (fun d => d.parameters.length) = some 0 := by decide +kernel
set_option maxHeartbeats 400000 in
theorem wX0_status_0 (C0 : Cx ad dc D RX0 cX0_status 1 p s m args meth c) (σ : St) (hX : XOK ks sh) (o : Int32) (h : fX0_status σ = some o) (Kr : KrI p l e RmX0_status s m args below meth c cX0_status Q (GW sh ks ad dc D A s (σ)) o) (H : Heap) (locs : List Loc) (ls : Array Slot) (hl : lv_has ls 1 [(0, .ref (ad 0))]) (G : GW sh ks ad dc D A s σ H locs) : W p l e RmX0_status s m args below meth c H locs 0 0 Q (F0 m 0 ls []) := by
  have hx := C0.1
  have hb := C0.2.1
  unfold fX0_status at h
  refine lv_aload_n hx hb dX0_status_0 rfl (lv_at hl 0 rfl) ?_
  refine g_getI C0 G in_X0 (ci := 0) rfl (hX.1 0 (by decide)) (fl := xFlX0) ((hX.2.1 0 (by decide)).trans rfl) 0 (by decide) rfl q436 dX0_status_1 ?_
  cases h
  exact Kr _ _ _ _ dX0_status_4 G
theorem kX0_status {l : Launch} {ad : Nat → Nat} {dc : Nat → ClassId} {D : va_G} {A : Nat → Prop}  (hi : ∀ i j, ad i = ad j → i = j) (hn : ks.Nodup) (hA : ∀ k, k ∈ ks → A (ad k)) {σ : St}  {r : Int32} (hX : XOK ks sh) (h : fX0_status σ = some r) : Met l yX0_status (ws_ yX0_status cX0_status 1 (some .int)) RmX0_status (gPc sh ks ad dc D σ [.ref (ad 0)]) (gQi sh ks ad dc D A σ r) 0 0 A :=
  g_metI (by decide) rfl hi hn hA (Nat.le_of_ble_eq_true rfl) (fun p e s m below meth c Q C0 Kr ls hl G => wX0_status_0 C0  σ hX r h Kr _ _ ls hl G)
-- X2_isHot
abbrev RmX2_isHot : Room := { frames := 1, cells := 0, slots := 0, locals := 21 }
theorem hdX2_isHot : yX2_isHot.cls = RX2 ∧ yX2_isHot.cls ≠ "java/lang/invoke/MethodHandle" ∧ yX2_isHot.cls ≠ "java/lang/invoke/VarHandle" ∧ (parseMethodDescriptor yX2_isHot.desc).map (fun d => d.parameters.length) = some 1 := by decide +kernel
set_option maxHeartbeats 400000 in
theorem wX2_isHot_0 (C0 : Cx ad dc D RX2 cX2_isHot 2 p s m args meth c) (a1 : Int32) (σ : St) (hX : XOK ks sh) (hq0 : isW q0) (o : Int32) (h : fX2_isHot q0 a1 σ = some o) (Kr : KrZ p l e RmX2_isHot s m args below meth c cX2_isHot Q (GW sh ks ad dc D A s (σ)) o) (H : Heap) (locs : List Loc) (ls : Array Slot) (hl : lv_has ls 2 [(0, .ref (ad q0)), (1, .int a1)]) (G : GW sh ks ad dc D A s σ H locs) : W p l e RmX2_isHot s m args below meth c H locs 0 0 Q (F0 m 0 ls []) := by
  have hx := C0.1
  have hb := C0.2.1
  unfold fX2_isHot at h
  refine lv_aload_n hx hb dX2_isHot_0 rfl (lv_at hl 0 rfl) ?_
  refine lv_iload_n hx hb dX2_isHot_1 rfl (lv_at hl 1 rfl) ?_
  obtain ⟨r1, h_r1, h⟩ := bn1_e h
  refine g_callVi (rest := []) C0 G hl (ci := 2) rfl (hX.1 _ (xW_l hq0)) (fl := (xFlX2 q0)) ((hX.2.1 _ (xW_l hq0)).trans (xW_s hq0)) (kX2_isCell (l := l) C0.2.2.2.2.2.2.1 G.2.2.1 G.2.2.2 hX hq0 h_r1) (cwV 1 C0.2.2.2.2.1 (lw_V q1222 q1223 q1224 q110 q1225) rfl rfl rfl hdX2_isCell ⟨Nat.le_of_ble_eq_true rfl, Nat.le_of_ble_eq_true rfl⟩) rfl (Nat.le_of_ble_eq_true rfl) dX2_isHot_2 ⟨Nat.zero_le _, Nat.zero_le _⟩ (fun H locs G => ?_)
  refine lv_if_eq (tgt := 24) hx hb dX2_isHot_5 (by decide) (fun c2 => ?_) (fun c2 => ?_)
  · have h := ite_t h c2
    refine lv_iconst (v := 0) hx hb dX2_isHot_24 (by decide +kernel) ?_
    cases h
    exact Kr _ _ _ _ dX2_isHot_25 (zz_nar (y := 0) (by decide)).1 G
  · have h := ite_f h c2
    refine lv_aload_n hx hb dX2_isHot_8 rfl (lv_at hl 0 rfl) ?_
    refine g_getI C0 G in_X2 (ci := 2) rfl (hX.1 _ (xW_l hq0)) (fl := (xFlX2 q0)) ((hX.2.1 _ (xW_l hq0)).trans (xW_s hq0)) 7 (by decide) rfl q244 dX2_isHot_9 ?_
    refine lv_iload_n hx hb dX2_isHot_12 rfl (lv_at hl 1 rfl) ?_
    refine lv_ishr hx hb dX2_isHot_13 ?_
    refine lv_iconst (v := 1) hx hb dX2_isHot_14 (by decide +kernel) ?_
    refine lv_iand hx hb dX2_isHot_15 ?_
    refine lv_iconst (v := 1) hx hb dX2_isHot_16 (by decide +kernel) ?_
    refine lv_icmp_ne (tgt := 24) hx hb dX2_isHot_17 (by decide) (fun c3 => ?_) (fun c3 => ?_)
    · have h := ite_f h c3
      refine lv_iconst (v := 0) hx hb dX2_isHot_24 (by decide +kernel) ?_
      cases h
      exact Kr _ _ _ _ dX2_isHot_25 (zz_nar (y := 0) (by decide)).1 G
    · have h := ite_t h c3
      refine lv_iconst (v := 1) hx hb dX2_isHot_20 (by decide +kernel) ?_
      refine lv_goto (tgt := 25) hx hb dX2_isHot_21 (by decide) ?_
      cases h
      exact Kr _ _ _ _ dX2_isHot_25 (zz_nar (y := 1) (by decide)).1 G
theorem kX2_isHot {l : Launch} {ad : Nat → Nat} {dc : Nat → ClassId} {D : va_G} {A : Nat → Prop} {q0 : Nat} (hi : ∀ i j, ad i = ad j → i = j) (hn : ks.Nodup) (hA : ∀ k, k ∈ ks → A (ad k)) {σ : St} {a1 : Int32} {r : Int32} (hX : XOK ks sh) (hq0 : isW q0) (h : fX2_isHot q0 a1 σ = some r) : Met l yX2_isHot (ws_ yX2_isHot cX2_isHot 2 (some .boolean)) RmX2_isHot (gPc sh ks ad dc D σ [.ref (ad q0), .int a1]) (gQi sh ks ad dc D A σ r) 0 0 A :=
  g_metZ (by decide) rfl hi hn hA (Nat.le_of_ble_eq_true rfl) (fun p e s m below meth c Q C0 Kr ls hl G => wX2_isHot_0 C0 a1 σ hX hq0 r h Kr _ _ ls hl G)
-- X2_ironOf
abbrev RmX2_ironOf : Room := { frames := 1, cells := 0, slots := 0, locals := 21 }
theorem hdX2_ironOf : yX2_ironOf.cls = RX2 ∧ yX2_ironOf.cls ≠ "java/lang/invoke/MethodHandle" ∧ yX2_ironOf.cls ≠ "java/lang/invoke/VarHandle" ∧ (parseMethodDescriptor yX2_ironOf.desc).map (fun d => d.parameters.length) = some 1 := by decide +kernel
set_option maxHeartbeats 400000 in
theorem wX2_ironOf_0 (C0 : Cx ad dc D RX2 cX2_ironOf 2 p s m args meth c) (a1 : Int32) (σ : St) (hX : XOK ks sh) (hq0 : isW q0) (o : Int32) (h : fX2_ironOf q0 a1 σ = some o) (Kr : KrI p l e RmX2_ironOf s m args below meth c cX2_ironOf Q (GW sh ks ad dc D A s (σ)) o) (H : Heap) (locs : List Loc) (ls : Array Slot) (hl : lv_has ls 2 [(0, .ref (ad q0)), (1, .int a1)]) (G : GW sh ks ad dc D A s σ H locs) : W p l e RmX2_ironOf s m args below meth c H locs 0 0 Q (F0 m 0 ls []) := by
  have hx := C0.1
  have hb := C0.2.1
  unfold fX2_ironOf at h
  refine lv_aload_n hx hb dX2_ironOf_0 rfl (lv_at hl 0 rfl) ?_
  refine lv_iload_n hx hb dX2_ironOf_1 rfl (lv_at hl 1 rfl) ?_
  obtain ⟨r1, h_r1, h⟩ := bn1_e h
  refine g_callVi (rest := []) C0 G hl (ci := 2) rfl (hX.1 _ (xW_l hq0)) (fl := (xFlX2 q0)) ((hX.2.1 _ (xW_l hq0)).trans (xW_s hq0)) (kX2_isCell (l := l) C0.2.2.2.2.2.2.1 G.2.2.1 G.2.2.2 hX hq0 h_r1) (cwV 1 C0.2.2.2.2.1 (lw_V q1222 q1223 q1224 q110 q1225) rfl rfl rfl hdX2_isCell ⟨Nat.le_of_ble_eq_true rfl, Nat.le_of_ble_eq_true rfl⟩) rfl (Nat.le_of_ble_eq_true rfl) dX2_ironOf_2 ⟨Nat.zero_le _, Nat.zero_le _⟩ (fun H locs G => ?_)
  refine lv_if_eq (tgt := 17) hx hb dX2_ironOf_5 (by decide) (fun c2 => ?_) (fun c2 => ?_)
  · have h := ite_t h c2
    refine lv_iconst (v := 0) hx hb dX2_ironOf_17 (by decide +kernel) ?_
    cases h
    exact Kr _ _ _ _ dX2_ironOf_18 G
  · have h := ite_f h c2
    refine lv_aload_n hx hb dX2_ironOf_8 rfl (lv_at hl 0 rfl) ?_
    refine g_getC C0 G in_X2 (ci := 2) rfl (hX.1 _ (xW_l hq0)) (fl := (xFlX2 q0)) ((hX.2.1 _ (xW_l hq0)).trans (xW_s hq0)) 0 (by decide) rfl q234 dX2_ironOf_9 ?_
    refine lv_iload_n hx hb dX2_ironOf_12 rfl (lv_at hl 1 rfl) ?_
    obtain ⟨b_3, h⟩ := ckB_e h
    refine g_iald C0 G (n := 5) (hX.1 _ (xW_l1 hq0)) ((hX.2.1 _ (xW_l1 hq0)).trans (xW_s1 hq0)) b_3 dX2_ironOf_13 ?_
    refine lv_goto (tgt := 18) hx hb dX2_ironOf_14 (by decide) ?_
    cases h
    exact Kr _ _ _ _ dX2_ironOf_18 G
theorem kX2_ironOf {l : Launch} {ad : Nat → Nat} {dc : Nat → ClassId} {D : va_G} {A : Nat → Prop} {q0 : Nat} (hi : ∀ i j, ad i = ad j → i = j) (hn : ks.Nodup) (hA : ∀ k, k ∈ ks → A (ad k)) {σ : St} {a1 : Int32} {r : Int32} (hX : XOK ks sh) (hq0 : isW q0) (h : fX2_ironOf q0 a1 σ = some r) : Met l yX2_ironOf (ws_ yX2_ironOf cX2_ironOf 2 (some .int)) RmX2_ironOf (gPc sh ks ad dc D σ [.ref (ad q0), .int a1]) (gQi sh ks ad dc D A σ r) 0 0 A :=
  g_metI (by decide) rfl hi hn hA (Nat.le_of_ble_eq_true rfl) (fun p e s m below meth c Q C0 Kr ls hl G => wX2_ironOf_0 C0 a1 σ hX hq0 r h Kr _ _ ls hl G)
-- X2_scales
abbrev RmX2_scales : Room := { frames := 0, cells := 0, slots := 0, locals := 0 }
theorem hdX2_scales : yX2_scales.cls = RX2 ∧ yX2_scales.cls ≠ "java/lang/invoke/MethodHandle" ∧ yX2_scales.cls ≠ "java/lang/invoke/VarHandle" ∧ (parseMethodDescriptor yX2_scales.desc).map (fun d => d.parameters.length) = some 1 := by decide +kernel
set_option maxHeartbeats 400000 in
theorem wX2_scales_0 (C0 : Cx ad dc D RX2 cX2_scales 2 p s m args meth c) (a1 : Int32) (σ : St) (hX : XOK ks sh) (hq0 : isW q0) (o : St) (h : fX2_scales q0 a1 σ = some o) (Kr : KrV p l e RmX2_scales s m args below meth c cX2_scales Q (GW sh ks ad dc D A s o)) (H : Heap) (locs : List Loc) (ls : Array Slot) (hl : lv_has ls 2 [(0, .ref (ad q0)), (1, .int a1)]) (G : GW sh ks ad dc D A s σ H locs) : W p l e RmX2_scales s m args below meth c H locs 0 0 Q (F0 m 0 ls []) := by
  have hx := C0.1
  have hb := C0.2.1
  unfold fX2_scales at h
  refine lv_aload_n hx hb dX2_scales_0 rfl (lv_at hl 0 rfl) ?_
  refine g_getC C0 G in_X2 (ci := 2) rfl (hX.1 _ (xW_l hq0)) (fl := (xFlX2 q0)) ((hX.2.1 _ (xW_l hq0)).trans (xW_s hq0)) 0 (by decide) rfl q234 dX2_scales_1 ?_
  refine lv_iload_n hx hb dX2_scales_4 rfl (lv_at hl 1 rfl) ?_
  obtain ⟨b_1, h⟩ := ckB_e h
  refine g_iald C0 G (n := 5) (hX.1 _ (xW_l1 hq0)) ((hX.2.1 _ (xW_l1 hq0)).trans (xW_s1 hq0)) b_1 dX2_scales_5 ?_
  refine lv_iconst (v := 1) hx hb dX2_scales_6 (by decide +kernel) ?_
  refine lv_icmp_ne (tgt := 11) hx hb dX2_scales_7 (by decide) (fun c2 => ?_) (fun c2 => ?_)
  · have h := ite_f h c2
    refine lv_aload_n hx hb dX2_scales_11 rfl (lv_at hl 0 rfl) ?_
    refine g_getC C0 G in_X2 (ci := 2) rfl (hX.1 _ (xW_l hq0)) (fl := (xFlX2 q0)) ((hX.2.1 _ (xW_l hq0)).trans (xW_s hq0)) 0 (by decide) rfl q234 dX2_scales_12 ?_
    refine lv_iload_n hx hb dX2_scales_15 rfl (lv_at hl 1 rfl) ?_
    refine lv_dup2_11 hx hb dX2_scales_16 rfl rfl ?_
    obtain ⟨b_3, h⟩ := ckB_e h
    refine g_iald C0 G (n := 5) (hX.1 _ (xW_l1 hq0)) ((hX.2.1 _ (xW_l1 hq0)).trans (xW_s1 hq0)) b_3 dX2_scales_17 ?_
    refine lv_iconst (v := 1) hx hb dX2_scales_18 (by decide +kernel) ?_
    refine lv_isub hx hb dX2_scales_19 ?_
    obtain ⟨b_4, h⟩ := ckB_e h
    refine g_iast C0 G (n := 5) (hX.1 _ (xW_l1 hq0)) ((hX.2.1 _ (xW_l1 hq0)).trans (xW_s1 hq0)) b_4 dX2_scales_20 (fun σ5 H locs e_σ5 G => ?_)
    have h := letB_e h e_σ5
    refine lv_aload_n hx hb dX2_scales_21 rfl (lv_at hl 0 rfl) ?_
    refine lv_dup hx hb dX2_scales_22 rfl ?_
    refine g_getI C0 G in_X2 (ci := 2) rfl (hX.1 _ (xW_l hq0)) (fl := (xFlX2 q0)) ((hX.2.1 _ (xW_l hq0)).trans (xW_s hq0)) 14 (by decide) rfl q259 dX2_scales_23 ?_
    refine lv_iconst (v := 1) hx hb dX2_scales_26 (by decide +kernel) ?_
    refine lv_iadd hx hb dX2_scales_27 ?_
    refine g_putI C0 G in_X2 tyX2_ok nmX2 (ci := 2) rfl (hX.1 _ (xW_l hq0)) (fl := (xFlX2 q0)) ((hX.2.1 _ (xW_l hq0)).trans (xW_s hq0)) 14 (by decide) rfl q259 rfl dX2_scales_28 ⟨rfl, rfl⟩ (fun σ6 H locs e_σ6 G => ?_)
    have h := letB_e h e_σ6
    cases h
    exact Kr _ _ _ _ dX2_scales_31 G
  · have h := ite_t h c2
    cases h
    exact Kr _ _ _ _ dX2_scales_10 G
theorem kX2_scales {l : Launch} {ad : Nat → Nat} {dc : Nat → ClassId} {D : va_G} {A : Nat → Prop} {q0 : Nat} (hi : ∀ i j, ad i = ad j → i = j) (hn : ks.Nodup) (hA : ∀ k, k ∈ ks → A (ad k)) {σ : St} {a1 : Int32}  {σ' : St} (hX : XOK ks sh) (hq0 : isW q0) (h : fX2_scales q0 a1 σ = some (σ')) : Met l yX2_scales (ws_ yX2_scales cX2_scales 2 none) RmX2_scales (gPc sh ks ad dc D σ [.ref (ad q0), .int a1]) (gQv sh ks ad dc D A σ') 0 0 A :=
  g_metV (by decide) rfl hi hn hA (Nat.le_of_ble_eq_true rfl) (fun p e s m below meth c Q C0 Kr ls hl G => wX2_scales_0 C0 a1 σ hX hq0 (σ') h Kr _ _ ls hl G)
-- X2_fires
abbrev RmX2_fires : Room := { frames := 1, cells := 0, slots := 0, locals := 21 }
theorem hdX2_fires : yX2_fires.cls = RX2 ∧ yX2_fires.cls ≠ "java/lang/invoke/MethodHandle" ∧ yX2_fires.cls ≠ "java/lang/invoke/VarHandle" ∧ (parseMethodDescriptor yX2_fires.desc).map (fun d => d.parameters.length) = some 1 := by decide +kernel
set_option maxHeartbeats 400000 in
theorem wX2_fires_81 (C0 : Cx ad dc D RX2 cX2_fires 5 p s m args meth c) (a1 : Int32) (a2 : Int32) (a4 : Int32) (σ : St) (hX : XOK ks sh) (hq0 : isW q0) (o : (Int32) ⊕ (Int32 × Int32)) (h : fX2_fires_81 q0 a1 a2 a4 σ = some o) (Kb : ∀ (b3 : Int32) (b4 : Int32), o = .inr (b3, b4) → ∀ (H : Heap) (locs : List Loc) (ls : Array Slot), lv_has ls 5 [(0, .ref (ad q0)), (1, .int a1), (2, .int a2), (3, .int b3), (4, .int b4)] → GW sh ks ad dc D A s σ H locs → W p l e RmX2_fires s m args below meth c H locs 0 0 Q (F0 m 41 ls [])) (Ke0 : ∀ (b3 : Int32), o = .inl b3 → ∀ (H : Heap) (locs : List Loc) (ls : Array Slot), lv_has ls 5 [(0, .ref (ad q0)), (1, .int a1), (2, .int a2), (3, .int b3)] → GW sh ks ad dc D A s σ H locs → W p l e RmX2_fires s m args below meth c H locs 0 0 Q (F0 m 93 ls [])) (H : Heap) (locs : List Loc) (ls : Array Slot) (hl : lv_has ls 5 [(0, .ref (ad q0)), (1, .int a1), (2, .int a2), (4, .int a4)]) (G : GW sh ks ad dc D A s σ H locs) : W p l e RmX2_fires s m args below meth c H locs 0 0 Q (F0 m 81 ls []) := by
  have hx := C0.1
  have hb := C0.2.1
  unfold fX2_fires_81 at h
  refine lv_iconst (v := 1) hx hb dX2_fires_81 (by decide +kernel) ?_
  refine lv_goto (tgt := 86) hx hb dX2_fires_82 (by decide) ?_
  refine lv_istore_n (lv' := [(3, .int 1), (0, .ref (ad q0)), (1, .int a1), (2, .int a2), (4, .int a4)]) hx hb dX2_fires_86 rfl hl (by decide) rfl (fun ls hl => ?_)
  obtain ⟨x1, e_x1⟩ : ∃ z : Int32, z = a4 + 1 := ⟨_, rfl⟩
  have h := letB_e h e_x1
  refine lv_iinc (v := x1) (lv' := [(4, .int x1), (3, .int 1), (0, .ref (ad q0)), (1, .int a1), (2, .int a2)]) hx hb dX2_fires_87 hl (k := 4) rfl ((congrArg (fun z => a4 + z) (show Int32.ofInt 1 = 1 by decide)).trans e_x1.symm) (by decide) rfl (fun ls hl => ?_)
  refine lv_goto (tgt := 41) hx hb dX2_fires_90 (by decide) ?_
  cases h
  exact Kb 1 x1 rfl _ _ _ (lv_sub hl [2, 3, 4, 1, 0] rfl) G
set_option maxHeartbeats 400000 in
theorem wX2_fires_93 (C0 : Cx ad dc D RX2 cX2_fires 5 p s m args meth c) (a1 : Int32) (a2 : Int32) (a3 : Int32) (σ : St) (hX : XOK ks sh) (hq0 : isW q0) (o : Int32 × St) (h : fX2_fires_93 q0 a1 a2 a3 σ = some o) (Kr : KrZ p l e RmX2_fires s m args below meth c cX2_fires Q (GW sh ks ad dc D A s (o.2)) o.1) (H : Heap) (locs : List Loc) (ls : Array Slot) (hl : lv_has ls 5 [(0, .ref (ad q0)), (1, .int a1), (2, .int a2), (3, .int a3)]) (G : GW sh ks ad dc D A s σ H locs) : W p l e RmX2_fires s m args below meth c H locs 0 0 Q (F0 m 93 ls []) := by
  have hx := C0.1
  have hb := C0.2.1
  unfold fX2_fires_93 at h
  refine lv_iload_n hx hb dX2_fires_93 rfl (lv_at hl 3 rfl) ?_
  refine lv_if_ne (tgt := 99) hx hb dX2_fires_94 (by decide) (fun c1 => ?_) (fun c1 => ?_)
  · have h := ite_f h c1
    refine lv_aload_n hx hb dX2_fires_99 rfl (lv_at hl 0 rfl) ?_
    refine lv_iload_n hx hb dX2_fires_100 rfl (lv_at hl 2 rfl) ?_
    refine g_putI C0 G in_X2 tyX2_ok nmX2 (ci := 2) rfl (hX.1 _ (xW_l hq0)) (fl := (xFlX2 q0)) ((hX.2.1 _ (xW_l hq0)).trans (xW_s hq0)) 7 (by decide) rfl q244 rfl dX2_fires_101 ⟨rfl, rfl⟩ (fun σ2 H locs e_σ2 G => ?_)
    have h := letB_e h e_σ2
    refine lv_aload_n hx hb dX2_fires_104 rfl (lv_at hl 0 rfl) ?_
    refine lv_iload_n hx hb dX2_fires_105 rfl (lv_at hl 1 rfl) ?_
    refine g_putI C0 G in_X2 tyX2_ok nmX2 (ci := 2) rfl (hX.1 _ (xW_l hq0)) (fl := (xFlX2 q0)) ((hX.2.1 _ (xW_l hq0)).trans (xW_s hq0)) 20 (by decide) rfl q271 rfl dX2_fires_106 ⟨rfl, rfl⟩ (fun σ3 H locs e_σ3 G => ?_)
    have h := letB_e h e_σ3
    refine lv_aload_n hx hb dX2_fires_109 rfl (lv_at hl 0 rfl) ?_
    refine lv_aload_n hx hb dX2_fires_110 rfl (lv_at hl 0 rfl) ?_
    refine g_getI C0 G in_X2 (ci := 2) rfl (hX.1 _ (xW_l hq0)) (fl := (xFlX2 q0)) ((hX.2.1 _ (xW_l hq0)).trans (xW_s hq0)) 5 (by decide) rfl q242 dX2_fires_111 ?_
    refine g_putI C0 G in_X2 tyX2_ok nmX2 (ci := 2) rfl (hX.1 _ (xW_l hq0)) (fl := (xFlX2 q0)) ((hX.2.1 _ (xW_l hq0)).trans (xW_s hq0)) 8 (by decide) rfl q246 rfl dX2_fires_114 ⟨rfl, rfl⟩ (fun σ4 H locs e_σ4 G => ?_)
    have h := letB_e h e_σ4
    refine lv_aload_n hx hb dX2_fires_117 rfl (lv_at hl 0 rfl) ?_
    refine lv_dup hx hb dX2_fires_118 rfl ?_
    refine g_getI C0 G in_X2 (ci := 2) rfl (hX.1 _ (xW_l hq0)) (fl := (xFlX2 q0)) ((hX.2.1 _ (xW_l hq0)).trans (xW_s hq0)) 9 (by decide) rfl q248 dX2_fires_119 ?_
    refine lv_iconst (v := 1) hx hb dX2_fires_122 (by decide +kernel) ?_
    refine lv_iadd hx hb dX2_fires_123 ?_
    refine g_putI C0 G in_X2 tyX2_ok nmX2 (ci := 2) rfl (hX.1 _ (xW_l hq0)) (fl := (xFlX2 q0)) ((hX.2.1 _ (xW_l hq0)).trans (xW_s hq0)) 9 (by decide) rfl q248 rfl dX2_fires_124 ⟨rfl, rfl⟩ (fun σ5 H locs e_σ5 G => ?_)
    have h := letB_e h e_σ5
    refine lv_aload_n hx hb dX2_fires_127 rfl (lv_at hl 0 rfl) ?_
    refine lv_iload_n hx hb dX2_fires_128 rfl (lv_at hl 1 rfl) ?_
    obtain ⟨σ7, h_r6, h⟩ := bn1_e h
    refine g_callVv (rest := []) C0 G hl (ci := 2) rfl (hX.1 _ (xW_l hq0)) (fl := (xFlX2 q0)) ((hX.2.1 _ (xW_l hq0)).trans (xW_s hq0)) (kX2_scales (l := l) C0.2.2.2.2.2.2.1 G.2.2.1 G.2.2.2 hX hq0 h_r6) (cwV 1 C0.2.2.2.2.1 (lw_V q1257 q1259 qs31 q110 q1260) rfl rfl rfl hdX2_scales ⟨Nat.le_of_ble_eq_true rfl, Nat.le_of_ble_eq_true rfl⟩) rfl (Nat.le_of_ble_eq_true rfl) dX2_fires_129 ⟨Nat.zero_le _, Nat.zero_le _⟩ (fun H locs G => ?_)
    refine lv_iconst (v := 1) hx hb dX2_fires_132 (by decide +kernel) ?_
    cases h
    exact Kr _ _ _ _ dX2_fires_133 (zz_nar (y := 1) (by decide)).1 G
  · have h := ite_t h c1
    refine lv_iconst (v := 0) hx hb dX2_fires_97 (by decide +kernel) ?_
    cases h
    exact Kr _ _ _ _ dX2_fires_98 (zz_nar (y := 0) (by decide)).1 G
set_option maxHeartbeats 400000 in
theorem wbX2_fires_41 (C0 : Cx ad dc D RX2 cX2_fires 5 p s m args meth c) (a1 : Int32) (a2 : Int32) (a3 : Int32) (a4 : Int32) (σ : St) (hX : XOK ks sh) (hq0 : isW q0) (o : (Int32) ⊕ (Int32 × Int32)) (h : bX2_fires_41 q0 a1 a2 a3 a4 σ = some o) (Kb : ∀ (b3 : Int32) (b4 : Int32), o = .inr (b3, b4) → ∀ (H : Heap) (locs : List Loc) (ls : Array Slot), lv_has ls 5 [(0, .ref (ad q0)), (1, .int a1), (2, .int a2), (3, .int b3), (4, .int b4)] → GW sh ks ad dc D A s σ H locs → W p l e RmX2_fires s m args below meth c H locs 0 0 Q (F0 m 41 ls [])) (Ke0 : ∀ (b3 : Int32), o = .inl b3 → ∀ (H : Heap) (locs : List Loc) (ls : Array Slot), lv_has ls 5 [(0, .ref (ad q0)), (1, .int a1), (2, .int a2), (3, .int b3)] → GW sh ks ad dc D A s σ H locs → W p l e RmX2_fires s m args below meth c H locs 0 0 Q (F0 m 93 ls [])) (H : Heap) (locs : List Loc) (ls : Array Slot) (hl : lv_has ls 5 [(0, .ref (ad q0)), (1, .int a1), (2, .int a2), (3, .int a3), (4, .int a4)]) (G : GW sh ks ad dc D A s σ H locs) : W p l e RmX2_fires s m args below meth c H locs 0 0 Q (F0 m 41 ls []) := by
  have hx := C0.1
  have hb := C0.2.1
  unfold bX2_fires_41 at h
  refine lv_iload hx hb dX2_fires_41 (lv_at hl 4 rfl) ?_
  refine lv_aload_n hx hb dX2_fires_43 rfl (lv_at hl 0 rfl) ?_
  refine g_getI C0 G in_X2 (ci := 2) rfl (hX.1 _ (xW_l hq0)) (fl := (xFlX2 q0)) ((hX.2.1 _ (xW_l hq0)).trans (xW_s hq0)) 3 (by decide) rfl q239 dX2_fires_44 ?_
  refine lv_icmp_ge (tgt := 93) hx hb dX2_fires_47 (by decide) (fun c1 => ?_) (fun c1 => ?_)
  · have h := ite_t h c1
    cases h
    exact Ke0 a3 rfl _ _ _ (lv_sub hl [0, 1, 2, 3] rfl) G
  · have h := ite_f h c1
    refine lv_iload_n hx hb dX2_fires_50 rfl (lv_at hl 3 rfl) ?_
    refine lv_if_ne (tgt := 81) hx hb dX2_fires_51 (by decide) (fun c2 => ?_) (fun c2 => ?_)
    · have h := ite_f h c2
      exact wX2_fires_81 C0 a1 a2 a4 (σ) hX hq0 _ h Kb Ke0 _ _ _ (lv_sub hl [0, 1, 2, 4] rfl) G
    · have h := ite_t h c2
      refine lv_iload_n hx hb dX2_fires_54 rfl (lv_at hl 2 rfl) ?_
      refine lv_iload hx hb dX2_fires_55 (lv_at hl 4 rfl) ?_
      refine lv_ishr hx hb dX2_fires_57 ?_
      refine lv_iconst (v := 1) hx hb dX2_fires_58 (by decide +kernel) ?_
      refine lv_iand hx hb dX2_fires_59 ?_
      refine lv_if_ne (tgt := 85) hx hb dX2_fires_60 (by decide) (fun c3 => ?_) (fun c3 => ?_)
      · have h := ite_f h c3
        refine lv_iconst (v := 0) hx hb dX2_fires_85 (by decide +kernel) ?_
        refine lv_istore_n (lv' := [(3, .int 0), (0, .ref (ad q0)), (1, .int a1), (2, .int a2), (4, .int a4)]) hx hb dX2_fires_86 rfl hl (by decide) rfl (fun ls hl => ?_)
        obtain ⟨x4, e_x4⟩ : ∃ z : Int32, z = a4 + 1 := ⟨_, rfl⟩
        have h := letB_e h e_x4
        refine lv_iinc (v := x4) (lv' := [(4, .int x4), (3, .int 0), (0, .ref (ad q0)), (1, .int a1), (2, .int a2)]) hx hb dX2_fires_87 hl (k := 4) rfl ((congrArg (fun z => a4 + z) (show Int32.ofInt 1 = 1 by decide)).trans e_x4.symm) (by decide) rfl (fun ls hl => ?_)
        refine lv_goto (tgt := 41) hx hb dX2_fires_90 (by decide) ?_
        cases h
        exact Kb 0 x4 rfl _ _ _ (lv_sub hl [2, 3, 4, 1, 0] rfl) G
      · have h := ite_t h c3
        refine lv_aload_n hx hb dX2_fires_63 rfl (lv_at hl 0 rfl) ?_
        refine g_getI C0 G in_X2 (ci := 2) rfl (hX.1 _ (xW_l hq0)) (fl := (xFlX2 q0)) ((hX.2.1 _ (xW_l hq0)).trans (xW_s hq0)) 4 (by decide) rfl q241 dX2_fires_64 ?_
        refine lv_aload_n hx hb dX2_fires_67 rfl (lv_at hl 0 rfl) ?_
        refine g_getC C0 G in_X2 (ci := 2) rfl (hX.1 _ (xW_l hq0)) (fl := (xFlX2 q0)) ((hX.2.1 _ (xW_l hq0)).trans (xW_s hq0)) 0 (by decide) rfl q234 dX2_fires_68 ?_
        refine lv_iload hx hb dX2_fires_71 (lv_at hl 4 rfl) ?_
        obtain ⟨b_5, h⟩ := ckB_e h
        refine g_iald C0 G (n := 5) (hX.1 _ (xW_l1 hq0)) ((hX.2.1 _ (xW_l1 hq0)).trans (xW_s1 hq0)) b_5 dX2_fires_73 ?_
        refine lv_ishr hx hb dX2_fires_74 ?_
        refine lv_iconst (v := 1) hx hb dX2_fires_75 (by decide +kernel) ?_
        refine lv_iand hx hb dX2_fires_76 ?_
        refine lv_iconst (v := 1) hx hb dX2_fires_77 (by decide +kernel) ?_
        refine lv_icmp_ne (tgt := 85) hx hb dX2_fires_78 (by decide) (fun c6 => ?_) (fun c6 => ?_)
        · have h := ite_f h c6
          refine lv_iconst (v := 0) hx hb dX2_fires_85 (by decide +kernel) ?_
          refine lv_istore_n (lv' := [(3, .int 0), (0, .ref (ad q0)), (1, .int a1), (2, .int a2), (4, .int a4)]) hx hb dX2_fires_86 rfl hl (by decide) rfl (fun ls hl => ?_)
          obtain ⟨x7, e_x7⟩ : ∃ z : Int32, z = a4 + 1 := ⟨_, rfl⟩
          have h := letB_e h e_x7
          refine lv_iinc (v := x7) (lv' := [(4, .int x7), (3, .int 0), (0, .ref (ad q0)), (1, .int a1), (2, .int a2)]) hx hb dX2_fires_87 hl (k := 4) rfl ((congrArg (fun z => a4 + z) (show Int32.ofInt 1 = 1 by decide)).trans e_x7.symm) (by decide) rfl (fun ls hl => ?_)
          refine lv_goto (tgt := 41) hx hb dX2_fires_90 (by decide) ?_
          cases h
          exact Kb 0 x7 rfl _ _ _ (lv_sub hl [2, 3, 4, 1, 0] rfl) G
        · have h := ite_t h c6
          exact wX2_fires_81 C0 a1 a2 a4 (σ) hX hq0 _ h Kb Ke0 _ _ _ (lv_sub hl [0, 1, 2, 4] rfl) G
set_option maxHeartbeats 400000 in
theorem lX2_fires_41 (C0 : Cx ad dc D RX2 cX2_fires 5 p s m args meth c) (a1 : Int32) (a2 : Int32) (σ : St) (hX : XOK ks sh) (hq0 : isW q0) : ∀ (n : Nat) (a3 : Int32) (a4 : Int32) (ex : Int32) (h : iter (fun v : Int32 × Int32 => bX2_fires_41 q0 a1 a2 v.1 v.2 σ) n (a3, a4) = some ex) (Ke0 : ∀ (b3 : Int32), ex = b3 → ∀ (H : Heap) (locs : List Loc) (ls : Array Slot), lv_has ls 5 [(0, .ref (ad q0)), (1, .int a1), (2, .int a2), (3, .int b3)] → GW sh ks ad dc D A s σ H locs → W p l e RmX2_fires s m args below meth c H locs 0 0 Q (F0 m 93 ls [])) (H : Heap) (locs : List Loc) (ls : Array Slot) (hl : lv_has ls 5 [(0, .ref (ad q0)), (1, .int a1), (2, .int a2), (3, .int a3), (4, .int a4)]) (G : GW sh ks ad dc D A s σ H locs), W p l e RmX2_fires s m args below meth c H locs 0 0 Q (F0 m 41 ls []) := by
  intro n
  induction n with
  | zero =>
    intro a3 a4 ex h
    cases h
  | succ n ih =>
    intro a3 a4 ex h Ke0 H locs ls hl G
    obtain ⟨r, hb1, hr⟩ := iter_e h
    refine wbX2_fires_41 C0 a1 a2 a3 a4 σ hX hq0 r hb1 ?_ ?_ H locs ls hl G
    · intro b3 b4 hv H locs ls hl G
      subst hv
      rcases hr with hr | ⟨a', hr, h2⟩
      · cases hr
      · rw [← Sum.inr.inj hr] at h2
        exact ih b3 b4 ex h2 Ke0 H locs ls hl G
    · intro b3 hv H locs ls hl G
      subst hv
      rcases hr with hr | ⟨a', hr, h2⟩
      · exact Ke0 b3 (Sum.inl.inj hr).symm H locs ls hl G
      · cases hr
set_option maxHeartbeats 400000 in
theorem wX2_fires_41 (C0 : Cx ad dc D RX2 cX2_fires 5 p s m args meth c) (a1 : Int32) (a2 : Int32) (a3 : Int32) (a4 : Int32) (σ : St) (hX : XOK ks sh) (hq0 : isW q0) (o : Int32 × St) (h : fX2_fires_41 q0 a1 a2 a3 a4 σ = some o) (Kr : KrZ p l e RmX2_fires s m args below meth c cX2_fires Q (GW sh ks ad dc D A s (o.2)) o.1) (H : Heap) (locs : List Loc) (ls : Array Slot) (hl : lv_has ls 5 [(0, .ref (ad q0)), (1, .int a1), (2, .int a2), (3, .int a3), (4, .int a4)]) (G : GW sh ks ad dc D A s σ H locs) : W p l e RmX2_fires s m args below meth c H locs 0 0 Q (F0 m 41 ls []) := by
  have hx := C0.1
  have hb := C0.2.1
  unfold fX2_fires_41 at h
  obtain ⟨ex, h1, h⟩ := bn1_e h
  refine lX2_fires_41 C0 a1 a2 σ hX hq0 FU a3 a4 ex h1 ?_ H locs ls hl G
  · intro b3 hv H locs ls hl G
    rw [hv] at h
    have h : (fX2_fires_93 q0 a1 a2 b3 (σ)) = some o := h
    exact wX2_fires_93 C0 a1 a2 b3 (σ) hX hq0 _ h Kr _ _ _ hl G
set_option maxHeartbeats 400000 in
theorem wX2_fires_0 (C0 : Cx ad dc D RX2 cX2_fires 5 p s m args meth c) (a1 : Int32) (σ : St) (hX : XOK ks sh) (hq0 : isW q0) (o : Int32 × St) (h : fX2_fires q0 a1 σ = some o) (Kr : KrZ p l e RmX2_fires s m args below meth c cX2_fires Q (GW sh ks ad dc D A s (o.2)) o.1) (H : Heap) (locs : List Loc) (ls : Array Slot) (hl : lv_has ls 5 [(0, .ref (ad q0)), (1, .int a1)]) (G : GW sh ks ad dc D A s σ H locs) : W p l e RmX2_fires s m args below meth c H locs 0 0 Q (F0 m 0 ls []) := by
  have hx := C0.1
  have hb := C0.2.1
  unfold fX2_fires at h
  refine lv_aload_n hx hb dX2_fires_0 rfl (lv_at hl 0 rfl) ?_
  refine lv_iload_n hx hb dX2_fires_1 rfl (lv_at hl 1 rfl) ?_
  obtain ⟨r1, h_r1, h⟩ := bn1_e h
  refine g_callVi (rest := []) C0 G hl (ci := 2) rfl (hX.1 _ (xW_l hq0)) (fl := (xFlX2 q0)) ((hX.2.1 _ (xW_l hq0)).trans (xW_s hq0)) (kX2_isCell (l := l) C0.2.2.2.2.2.2.1 G.2.2.1 G.2.2.2 hX hq0 h_r1) (cwV 1 C0.2.2.2.2.1 (lw_V q1222 q1223 q1224 q110 q1225) rfl rfl rfl hdX2_isCell ⟨Nat.le_of_ble_eq_true rfl, Nat.le_of_ble_eq_true rfl⟩) rfl (Nat.le_of_ble_eq_true rfl) dX2_fires_2 ⟨Nat.zero_le _, Nat.zero_le _⟩ (fun H locs G => ?_)
  refine lv_if_ne (tgt := 20) hx hb dX2_fires_5 (by decide) (fun c2 => ?_) (fun c2 => ?_)
  · have h := ite_f h c2
    refine lv_bipush (v := 7) hx hb dX2_fires_20 (by decide +kernel) ?_
    refine lv_iload_n hx hb dX2_fires_22 rfl (lv_at hl 1 rfl) ?_
    refine lv_ishl hx hb dX2_fires_23 ?_
    refine lv_iconst (v := 1) hx hb dX2_fires_24 (by decide +kernel) ?_
    refine lv_ishr hx hb dX2_fires_25 ?_
    refine lv_iconst (v := 1) hx hb dX2_fires_26 (by decide +kernel) ?_
    refine lv_aload_n hx hb dX2_fires_27 rfl (lv_at hl 0 rfl) ?_
    refine g_getI C0 G in_X2 (ci := 2) rfl (hX.1 _ (xW_l hq0)) (fl := (xFlX2 q0)) ((hX.2.1 _ (xW_l hq0)).trans (xW_s hq0)) 3 (by decide) rfl q239 dX2_fires_28 ?_
    refine lv_ishl hx hb dX2_fires_31 ?_
    refine lv_iconst (v := 1) hx hb dX2_fires_32 (by decide +kernel) ?_
    refine lv_isub hx hb dX2_fires_33 ?_
    refine lv_iand hx hb dX2_fires_34 ?_
    refine lv_topi (fun x3 e_x3 => ?_)
    have h := letB_e h e_x3
    refine lv_istore_n (lv' := [(2, .int x3), (0, .ref (ad q0)), (1, .int a1)]) hx hb dX2_fires_35 rfl hl (by decide) rfl (fun ls hl => ?_)
    refine lv_iconst (v := 0) hx hb dX2_fires_36 (by decide +kernel) ?_
    refine lv_istore_n (lv' := [(3, .int 0), (2, .int x3), (0, .ref (ad q0)), (1, .int a1)]) hx hb dX2_fires_37 rfl hl (by decide) rfl (fun ls hl => ?_)
    refine lv_iconst (v := 0) hx hb dX2_fires_38 (by decide +kernel) ?_
    refine lv_istore (lv' := [(4, .int 0), (3, .int 0), (2, .int x3), (0, .ref (ad q0)), (1, .int a1)]) hx hb dX2_fires_39 hl (by decide) rfl (fun ls hl => ?_)
    exact wX2_fires_41 C0 a1 x3 0 0 (σ) hX hq0 _ h Kr _ _ _ (lv_sub hl [3, 4, 2, 1, 0] rfl) G
  · have h := ite_t h c2
    refine lv_aload_n hx hb dX2_fires_8 rfl (lv_at hl 0 rfl) ?_
    refine lv_dup hx hb dX2_fires_9 rfl ?_
    refine g_getI C0 G in_X2 (ci := 2) rfl (hX.1 _ (xW_l hq0)) (fl := (xFlX2 q0)) ((hX.2.1 _ (xW_l hq0)).trans (xW_s hq0)) 12 (by decide) rfl q255 dX2_fires_10 ?_
    refine lv_iconst (v := 1) hx hb dX2_fires_13 (by decide +kernel) ?_
    refine lv_iadd hx hb dX2_fires_14 ?_
    refine g_putI C0 G in_X2 tyX2_ok nmX2 (ci := 2) rfl (hX.1 _ (xW_l hq0)) (fl := (xFlX2 q0)) ((hX.2.1 _ (xW_l hq0)).trans (xW_s hq0)) 12 (by decide) rfl q255 rfl dX2_fires_15 ⟨rfl, rfl⟩ (fun σ4 H locs e_σ4 G => ?_)
    have h := letB_e h e_σ4
    refine lv_iconst (v := 1) hx hb dX2_fires_18 (by decide +kernel) ?_
    cases h
    exact Kr _ _ _ _ dX2_fires_19 (zz_nar (y := 1) (by decide)).1 G
theorem kX2_fires {l : Launch} {ad : Nat → Nat} {dc : Nat → ClassId} {D : va_G} {A : Nat → Prop} {q0 : Nat} (hi : ∀ i j, ad i = ad j → i = j) (hn : ks.Nodup) (hA : ∀ k, k ∈ ks → A (ad k)) {σ : St} {a1 : Int32} {r : Int32} {σ' : St} (hX : XOK ks sh) (hq0 : isW q0) (h : fX2_fires q0 a1 σ = some (r, σ')) : Met l yX2_fires (ws_ yX2_fires cX2_fires 5 (some .boolean)) RmX2_fires (gPc sh ks ad dc D σ [.ref (ad q0), .int a1]) (gQi sh ks ad dc D A σ' r) 0 0 A :=
  g_metZ (by decide) rfl hi hn hA (Nat.le_of_ble_eq_true rfl) (fun p e s m below meth c Q C0 Kr ls hl G => wX2_fires_0 C0 a1 σ hX hq0 (r, σ') h Kr _ _ ls hl G)
-- X2_cools
abbrev RmX2_cools : Room := { frames := 0, cells := 0, slots := 0, locals := 0 }
theorem hdX2_cools : yX2_cools.cls = RX2 ∧ yX2_cools.cls ≠ "java/lang/invoke/MethodHandle" ∧ yX2_cools.cls ≠ "java/lang/invoke/VarHandle" ∧ (parseMethodDescriptor yX2_cools.desc).map (fun d => d.parameters.length) = some 1 := by decide +kernel
set_option maxHeartbeats 400000 in
theorem wX2_cools_0 (C0 : Cx ad dc D RX2 cX2_cools 2 p s m args meth c) (a1 : Int32) (σ : St) (hX : XOK ks sh) (hq0 : isW q0) (o : St) (h : fX2_cools q0 a1 σ = some o) (Kr : KrV p l e RmX2_cools s m args below meth c cX2_cools Q (GW sh ks ad dc D A s o)) (H : Heap) (locs : List Loc) (ls : Array Slot) (hl : lv_has ls 2 [(0, .ref (ad q0)), (1, .int a1)]) (G : GW sh ks ad dc D A s σ H locs) : W p l e RmX2_cools s m args below meth c H locs 0 0 Q (F0 m 0 ls []) := by
  have hx := C0.1
  have hb := C0.2.1
  unfold fX2_cools at h
  refine lv_aload_n hx hb dX2_cools_0 rfl (lv_at hl 0 rfl) ?_
  refine lv_dup hx hb dX2_cools_1 rfl ?_
  refine g_getI C0 G in_X2 (ci := 2) rfl (hX.1 _ (xW_l hq0)) (fl := (xFlX2 q0)) ((hX.2.1 _ (xW_l hq0)).trans (xW_s hq0)) 13 (by decide) rfl q257 dX2_cools_2 ?_
  refine lv_iconst (v := 1) hx hb dX2_cools_5 (by decide +kernel) ?_
  refine lv_iadd hx hb dX2_cools_6 ?_
  refine g_putI C0 G in_X2 tyX2_ok nmX2 (ci := 2) rfl (hX.1 _ (xW_l hq0)) (fl := (xFlX2 q0)) ((hX.2.1 _ (xW_l hq0)).trans (xW_s hq0)) 13 (by decide) rfl q257 rfl dX2_cools_7 ⟨rfl, rfl⟩ (fun σ1 H locs e_σ1 G => ?_)
  have h := letB_e h e_σ1
  refine lv_aload_n hx hb dX2_cools_10 rfl (lv_at hl 0 rfl) ?_
  refine lv_dup hx hb dX2_cools_11 rfl ?_
  refine g_getI C0 G in_X2 (ci := 2) rfl (hX.1 _ (xW_l hq0)) (fl := (xFlX2 q0)) ((hX.2.1 _ (xW_l hq0)).trans (xW_s hq0)) 19 (by decide) rfl q269 dX2_cools_12 ?_
  refine lv_iconst (v := 1) hx hb dX2_cools_15 (by decide +kernel) ?_
  refine lv_iload_n hx hb dX2_cools_16 rfl (lv_at hl 1 rfl) ?_
  refine lv_ishl hx hb dX2_cools_17 ?_
  refine lv_ior hx hb dX2_cools_18 ?_
  refine g_putI C0 G in_X2 tyX2_ok nmX2 (ci := 2) rfl (hX.1 _ (xW_l hq0)) (fl := (xFlX2 q0)) ((hX.2.1 _ (xW_l hq0)).trans (xW_s hq0)) 19 (by decide) rfl q269 rfl dX2_cools_19 ⟨rfl, rfl⟩ (fun σ2 H locs e_σ2 G => ?_)
  have h := letB_e h e_σ2
  cases h
  exact Kr _ _ _ _ dX2_cools_22 G
theorem kX2_cools {l : Launch} {ad : Nat → Nat} {dc : Nat → ClassId} {D : va_G} {A : Nat → Prop} {q0 : Nat} (hi : ∀ i j, ad i = ad j → i = j) (hn : ks.Nodup) (hA : ∀ k, k ∈ ks → A (ad k)) {σ : St} {a1 : Int32}  {σ' : St} (hX : XOK ks sh) (hq0 : isW q0) (h : fX2_cools q0 a1 σ = some (σ')) : Met l yX2_cools (ws_ yX2_cools cX2_cools 2 none) RmX2_cools (gPc sh ks ad dc D σ [.ref (ad q0), .int a1]) (gQv sh ks ad dc D A σ') 0 0 A :=
  g_metV (by decide) rfl hi hn hA (Nat.le_of_ble_eq_true rfl) (fun p e s m below meth c Q C0 Kr ls hl G => wX2_cools_0 C0 a1 σ hX hq0 (σ') h Kr _ _ ls hl G)
-- X2_uses
abbrev RmX2_uses : Room := { frames := 1, cells := 0, slots := 0, locals := 21 }
theorem hdX2_uses : yX2_uses.cls = RX2 ∧ yX2_uses.cls ≠ "java/lang/invoke/MethodHandle" ∧ yX2_uses.cls ≠ "java/lang/invoke/VarHandle" ∧ (parseMethodDescriptor yX2_uses.desc).map (fun d => d.parameters.length) = some 2 := by decide +kernel
set_option maxHeartbeats 400000 in
theorem wX2_uses_0 (C0 : Cx ad dc D RX2 cX2_uses 3 p s m args meth c) (a1 : Int32) (a2 : Int32) (σ : St) (hX : XOK ks sh) (hq0 : isW q0) (o : Int32 × St) (h : fX2_uses q0 a1 a2 σ = some o) (Kr : KrZ p l e RmX2_uses s m args below meth c cX2_uses Q (GW sh ks ad dc D A s (o.2)) o.1) (H : Heap) (locs : List Loc) (ls : Array Slot) (hl : lv_has ls 3 [(0, .ref (ad q0)), (1, .int a1), (2, .int a2)]) (G : GW sh ks ad dc D A s σ H locs) : W p l e RmX2_uses s m args below meth c H locs 0 0 Q (F0 m 0 ls []) := by
  have hx := C0.1
  have hb := C0.2.1
  unfold fX2_uses at h
  refine lv_aload_n hx hb dX2_uses_0 rfl (lv_at hl 0 rfl) ?_
  refine g_getI C0 G in_X2 (ci := 2) rfl (hX.1 _ (xW_l hq0)) (fl := (xFlX2 q0)) ((hX.2.1 _ (xW_l hq0)).trans (xW_s hq0)) 8 (by decide) rfl q246 dX2_uses_1 ?_
  refine lv_if_eq (tgt := 11) hx hb dX2_uses_4 (by decide) (fun c1 => ?_) (fun c1 => ?_)
  · have h := ite_t h c1
    refine lv_aload_n hx hb dX2_uses_11 rfl (lv_at hl 0 rfl) ?_
    refine lv_iload_n hx hb dX2_uses_12 rfl (lv_at hl 1 rfl) ?_
    obtain ⟨σ3, h_r2, h⟩ := bn1_e h
    refine g_callVv (rest := []) C0 G hl (ci := 2) rfl (hX.1 _ (xW_l hq0)) (fl := (xFlX2 q0)) ((hX.2.1 _ (xW_l hq0)).trans (xW_s hq0)) (kX2_cools (l := l) C0.2.2.2.2.2.2.1 G.2.2.1 G.2.2.2 hX hq0 h_r2) (cwV 1 C0.2.2.2.2.1 (lw_V q1278 q1280 qs33 q110 q1281) rfl rfl rfl hdX2_cools ⟨Nat.le_of_ble_eq_true rfl, Nat.le_of_ble_eq_true rfl⟩) rfl (Nat.le_of_ble_eq_true rfl) dX2_uses_13 ⟨Nat.zero_le _, Nat.zero_le _⟩ (fun H locs G => ?_)
    refine lv_iconst (v := 0) hx hb dX2_uses_16 (by decide +kernel) ?_
    cases h
    exact Kr _ _ _ _ dX2_uses_17 (zz_nar (y := 0) (by decide)).1 G
  · have h := ite_f h c1
    refine lv_iload_n hx hb dX2_uses_7 rfl (lv_at hl 2 rfl) ?_
    refine lv_if_ne (tgt := 18) hx hb dX2_uses_8 (by decide) (fun c4 => ?_) (fun c4 => ?_)
    · have h := ite_f h c4
      refine lv_aload_n hx hb dX2_uses_18 rfl (lv_at hl 0 rfl) ?_
      refine lv_dup hx hb dX2_uses_19 rfl ?_
      refine g_getI C0 G in_X2 (ci := 2) rfl (hX.1 _ (xW_l hq0)) (fl := (xFlX2 q0)) ((hX.2.1 _ (xW_l hq0)).trans (xW_s hq0)) 8 (by decide) rfl q246 dX2_uses_20 ?_
      refine lv_iconst (v := 1) hx hb dX2_uses_23 (by decide +kernel) ?_
      refine lv_isub hx hb dX2_uses_24 ?_
      refine g_putI C0 G in_X2 tyX2_ok nmX2 (ci := 2) rfl (hX.1 _ (xW_l hq0)) (fl := (xFlX2 q0)) ((hX.2.1 _ (xW_l hq0)).trans (xW_s hq0)) 8 (by decide) rfl q246 rfl dX2_uses_25 ⟨rfl, rfl⟩ (fun σ5 H locs e_σ5 G => ?_)
      have h := letB_e h e_σ5
      refine lv_aload_n hx hb dX2_uses_28 rfl (lv_at hl 0 rfl) ?_
      refine lv_dup hx hb dX2_uses_29 rfl ?_
      refine g_getI C0 G in_X2 (ci := 2) rfl (hX.1 _ (xW_l hq0)) (fl := (xFlX2 q0)) ((hX.2.1 _ (xW_l hq0)).trans (xW_s hq0)) 10 (by decide) rfl q251 dX2_uses_30 ?_
      refine lv_iconst (v := 1) hx hb dX2_uses_33 (by decide +kernel) ?_
      refine lv_iadd hx hb dX2_uses_34 ?_
      refine g_putI C0 G in_X2 tyX2_ok nmX2 (ci := 2) rfl (hX.1 _ (xW_l hq0)) (fl := (xFlX2 q0)) ((hX.2.1 _ (xW_l hq0)).trans (xW_s hq0)) 10 (by decide) rfl q251 rfl dX2_uses_35 ⟨rfl, rfl⟩ (fun σ6 H locs e_σ6 G => ?_)
      have h := letB_e h e_σ6
      refine lv_iconst (v := 1) hx hb dX2_uses_38 (by decide +kernel) ?_
      cases h
      exact Kr _ _ _ _ dX2_uses_39 (zz_nar (y := 1) (by decide)).1 G
    · have h := ite_t h c4
      refine lv_aload_n hx hb dX2_uses_11 rfl (lv_at hl 0 rfl) ?_
      refine lv_iload_n hx hb dX2_uses_12 rfl (lv_at hl 1 rfl) ?_
      obtain ⟨σ8, h_r7, h⟩ := bn1_e h
      refine g_callVv (rest := []) C0 G hl (ci := 2) rfl (hX.1 _ (xW_l hq0)) (fl := (xFlX2 q0)) ((hX.2.1 _ (xW_l hq0)).trans (xW_s hq0)) (kX2_cools (l := l) C0.2.2.2.2.2.2.1 G.2.2.1 G.2.2.2 hX hq0 h_r7) (cwV 1 C0.2.2.2.2.1 (lw_V q1278 q1280 qs33 q110 q1281) rfl rfl rfl hdX2_cools ⟨Nat.le_of_ble_eq_true rfl, Nat.le_of_ble_eq_true rfl⟩) rfl (Nat.le_of_ble_eq_true rfl) dX2_uses_13 ⟨Nat.zero_le _, Nat.zero_le _⟩ (fun H locs G => ?_)
      refine lv_iconst (v := 0) hx hb dX2_uses_16 (by decide +kernel) ?_
      cases h
      exact Kr _ _ _ _ dX2_uses_17 (zz_nar (y := 0) (by decide)).1 G
theorem kX2_uses {l : Launch} {ad : Nat → Nat} {dc : Nat → ClassId} {D : va_G} {A : Nat → Prop} {q0 : Nat} (hi : ∀ i j, ad i = ad j → i = j) (hn : ks.Nodup) (hA : ∀ k, k ∈ ks → A (ad k)) {σ : St} {a1 : Int32} {a2 : Int32} {r : Int32} {σ' : St} (hX : XOK ks sh) (hq0 : isW q0) (h : fX2_uses q0 a1 a2 σ = some (r, σ')) : Met l yX2_uses (ws_ yX2_uses cX2_uses 3 (some .boolean)) RmX2_uses (gPc sh ks ad dc D σ [.ref (ad q0), .int a1, .int a2]) (gQi sh ks ad dc D A σ' r) 0 0 A :=
  g_metZ (by decide) rfl hi hn hA (Nat.le_of_ble_eq_true rfl) (fun p e s m below meth c Q C0 Kr ls hl G => wX2_uses_0 C0 a1 a2 σ hX hq0 (r, σ') h Kr _ _ ls hl G)
-- X4_slips
abbrev RmX4_slips : Room := { frames := 0, cells := 0, slots := 0, locals := 0 }
theorem hdX4_slips : yX4_slips.cls = RX4 ∧ yX4_slips.cls ≠ "java/lang/invoke/MethodHandle" ∧ yX4_slips.cls ≠ "java/lang/invoke/VarHandle" ∧ (parseMethodDescriptor yX4_slips.desc).map (fun d => d.parameters.length) = some 0 := by decide +kernel
set_option maxHeartbeats 400000 in
theorem wX4_slips_0 (C0 : Cx ad dc D RX4 cX4_slips 1 p s m args meth c) (σ : St) (hX : XOK ks sh) (o : Int32 × St) (h : fX4_slips σ = some o) (Kr : KrZ p l e RmX4_slips s m args below meth c cX4_slips Q (GW sh ks ad dc D A s (o.2)) o.1) (H : Heap) (locs : List Loc) (ls : Array Slot) (hl : lv_has ls 1 [(0, .ref (ad 48))]) (G : GW sh ks ad dc D A s σ H locs) : W p l e RmX4_slips s m args below meth c H locs 0 0 Q (F0 m 0 ls []) := by
  have hx := C0.1
  have hb := C0.2.1
  unfold fX4_slips at h
  refine lv_aload_n hx hb dX4_slips_0 rfl (lv_at hl 0 rfl) ?_
  refine lv_aload_n hx hb dX4_slips_1 rfl (lv_at hl 0 rfl) ?_
  refine g_getI C0 G in_X4 (ci := 4) rfl (hX.1 48 (by decide)) (fl := xFlX4) ((hX.2.1 48 (by decide)).trans rfl) 1 (by decide) rfl q399 dX4_slips_2 ?_
  refine lv_i2l hx hb dX4_slips_5 rfl ?_
  refine lv_ldc2 hx hb C0.2.2.2.1 (C0.2.2.2.2.1 _ q1306) dX4_slips_6 ?_
  refine lv_lmul hx hb dX4_slips_9 ?_
  refine lv_ldc2 hx hb C0.2.2.2.1 (C0.2.2.2.2.1 _ q1307) dX4_slips_10 ?_
  refine lv_ladd hx hb dX4_slips_13 ?_
  refine lv_ldc2 hx hb C0.2.2.2.1 (C0.2.2.2.2.1 _ q1308) dX4_slips_14 ?_
  refine lv_lrem hx hb dX4_slips_17 (by decide) ?_
  refine lv_l2i hx hb dX4_slips_18 rfl ?_
  refine g_putI C0 G in_X4 tyX4_ok nmX4 (ci := 4) rfl (hX.1 48 (by decide)) (fl := xFlX4) ((hX.2.1 48 (by decide)).trans rfl) 1 (by decide) rfl q399 rfl dX4_slips_19 ⟨rfl, rfl⟩ (fun σ1 H locs e_σ1 G => ?_)
  have h := letB_e h e_σ1
  refine lv_aload_n hx hb dX4_slips_22 rfl (lv_at hl 0 rfl) ?_
  refine g_getI C0 G in_X4 (ci := 4) rfl (hX.1 48 (by decide)) (fl := xFlX4) ((hX.2.1 48 (by decide)).trans rfl) 1 (by decide) rfl q399 dX4_slips_23 ?_
  refine lv_bipush (v := 100) hx hb dX4_slips_26 (by decide +kernel) ?_
  refine lv_irem hx hb dX4_slips_28 (by decide) ?_
  refine lv_aload_n hx hb dX4_slips_29 rfl (lv_at hl 0 rfl) ?_
  refine g_getI C0 G in_X4 (ci := 4) rfl (hX.1 48 (by decide)) (fl := xFlX4) ((hX.2.1 48 (by decide)).trans rfl) 0 (by decide) rfl q397 dX4_slips_30 ?_
  refine lv_icmp_ge (tgt := 40) hx hb dX4_slips_33 (by decide) (fun c2 => ?_) (fun c2 => ?_)
  · have h := ite_t h c2
    refine lv_iconst (v := 0) hx hb dX4_slips_40 (by decide +kernel) ?_
    cases h
    exact Kr _ _ _ _ dX4_slips_41 (zz_nar (y := 0) (by decide)).1 G
  · have h := ite_f h c2
    refine lv_iconst (v := 1) hx hb dX4_slips_36 (by decide +kernel) ?_
    refine lv_goto (tgt := 41) hx hb dX4_slips_37 (by decide) ?_
    cases h
    exact Kr _ _ _ _ dX4_slips_41 (zz_nar (y := 1) (by decide)).1 G
theorem kX4_slips {l : Launch} {ad : Nat → Nat} {dc : Nat → ClassId} {D : va_G} {A : Nat → Prop}  (hi : ∀ i j, ad i = ad j → i = j) (hn : ks.Nodup) (hA : ∀ k, k ∈ ks → A (ad k)) {σ : St}  {r : Int32} {σ' : St} (hX : XOK ks sh) (h : fX4_slips σ = some (r, σ')) : Met l yX4_slips (ws_ yX4_slips cX4_slips 1 (some .boolean)) RmX4_slips (gPc sh ks ad dc D σ [.ref (ad 48)]) (gQi sh ks ad dc D A σ' r) 0 0 A :=
  g_metZ (by decide) rfl hi hn hA (Nat.le_of_ble_eq_true rfl) (fun p e s m below meth c Q C0 Kr ls hl G => wX4_slips_0 C0  σ hX (r, σ') h Kr _ _ ls hl G)
-- X2_strikes
abbrev RmX2_strikes : Room := { frames := 2, cells := 0, slots := 0, locals := 43 }
theorem hdX2_strikes : yX2_strikes.cls = RX2 ∧ yX2_strikes.cls ≠ "java/lang/invoke/MethodHandle" ∧ yX2_strikes.cls ≠ "java/lang/invoke/VarHandle" ∧ (parseMethodDescriptor yX2_strikes.desc).map (fun d => d.parameters.length) = some 2 := by decide +kernel
set_option maxHeartbeats 400000 in
theorem wX2_strikes_26 (C0 : Cx ad dc D RX2 cX2_strikes 4 p s m args meth c) (σ : St) (hX : XOK ks sh) (hq0 : isW q0) (o : St) (h : fX2_strikes_26 q0 σ = some o) (Kr : KrV p l e RmX2_strikes s m args below meth c cX2_strikes Q (GW sh ks ad dc D A s o)) (H : Heap) (locs : List Loc) (ls : Array Slot) (hl : lv_has ls 4 [(0, .ref (ad q0))]) (G : GW sh ks ad dc D A s σ H locs) : W p l e RmX2_strikes s m args below meth c H locs 0 0 Q (F0 m 26 ls []) := by
  have hx := C0.1
  have hb := C0.2.1
  unfold fX2_strikes_26 at h
  refine lv_aload_n hx hb dX2_strikes_26 rfl (lv_at hl 0 rfl) ?_
  refine lv_dup hx hb dX2_strikes_27 rfl ?_
  refine g_getI C0 G in_X2 (ci := 2) rfl (hX.1 _ (xW_l hq0)) (fl := (xFlX2 q0)) ((hX.2.1 _ (xW_l hq0)).trans (xW_s hq0)) 12 (by decide) rfl q255 dX2_strikes_28 ?_
  refine lv_iconst (v := 1) hx hb dX2_strikes_31 (by decide +kernel) ?_
  refine lv_iadd hx hb dX2_strikes_32 ?_
  refine g_putI C0 G in_X2 tyX2_ok nmX2 (ci := 2) rfl (hX.1 _ (xW_l hq0)) (fl := (xFlX2 q0)) ((hX.2.1 _ (xW_l hq0)).trans (xW_s hq0)) 12 (by decide) rfl q255 rfl dX2_strikes_33 ⟨rfl, rfl⟩ (fun σ1 H locs e_σ1 G => ?_)
  have h := letB_e h e_σ1
  cases h
  exact Kr _ _ _ _ dX2_strikes_36 G
set_option maxHeartbeats 400000 in
theorem wX2_strikes_130 (C0 : Cx ad dc D RX2 cX2_strikes 4 p s m args meth c) (σ : St) (hX : XOK ks sh) (hq0 : isW q0) (o : St) (h : fX2_strikes_130 q0 σ = some o) (Kr : KrV p l e RmX2_strikes s m args below meth c cX2_strikes Q (GW sh ks ad dc D A s o)) (H : Heap) (locs : List Loc) (ls : Array Slot) (hl : lv_has ls 4 [(0, .ref (ad q0))]) (G : GW sh ks ad dc D A s σ H locs) : W p l e RmX2_strikes s m args below meth c H locs 0 0 Q (F0 m 130 ls []) := by
  have hx := C0.1
  have hb := C0.2.1
  unfold fX2_strikes_130 at h
  refine lv_aload_n hx hb dX2_strikes_130 rfl (lv_at hl 0 rfl) ?_
  refine lv_dup hx hb dX2_strikes_131 rfl ?_
  refine g_getI C0 G in_X2 (ci := 2) rfl (hX.1 _ (xW_l hq0)) (fl := (xFlX2 q0)) ((hX.2.1 _ (xW_l hq0)).trans (xW_s hq0)) 12 (by decide) rfl q255 dX2_strikes_132 ?_
  refine lv_iconst (v := 1) hx hb dX2_strikes_135 (by decide +kernel) ?_
  refine lv_iadd hx hb dX2_strikes_136 ?_
  refine g_putI C0 G in_X2 tyX2_ok nmX2 (ci := 2) rfl (hX.1 _ (xW_l hq0)) (fl := (xFlX2 q0)) ((hX.2.1 _ (xW_l hq0)).trans (xW_s hq0)) 12 (by decide) rfl q255 rfl dX2_strikes_137 ⟨rfl, rfl⟩ (fun σ1 H locs e_σ1 G => ?_)
  have h := letB_e h e_σ1
  cases h
  exact Kr _ _ _ _ dX2_strikes_140 G
set_option maxHeartbeats 400000 in
theorem wX2_strikes_141 (C0 : Cx ad dc D RX2 cX2_strikes 4 p s m args meth c) (a1 : Int32) (a2 : Int32) (σ : St) (hX : XOK ks sh) (hq0 : isW q0) (o : St) (h : fX2_strikes_141 q0 a1 a2 σ = some o) (Kr : KrV p l e RmX2_strikes s m args below meth c cX2_strikes Q (GW sh ks ad dc D A s o)) (H : Heap) (locs : List Loc) (ls : Array Slot) (hl : lv_has ls 4 [(0, .ref (ad q0)), (1, .int a1), (2, .int a2)]) (G : GW sh ks ad dc D A s σ H locs) : W p l e RmX2_strikes s m args below meth c H locs 0 0 Q (F0 m 141 ls []) := by
  have hx := C0.1
  have hb := C0.2.1
  unfold fX2_strikes_141 at h
  refine lv_aload_n hx hb dX2_strikes_141 rfl (lv_at hl 0 rfl) ?_
  refine lv_dup hx hb dX2_strikes_142 rfl ?_
  refine g_getI C0 G in_X2 (ci := 2) rfl (hX.1 _ (xW_l hq0)) (fl := (xFlX2 q0)) ((hX.2.1 _ (xW_l hq0)).trans (xW_s hq0)) 11 (by decide) rfl q253 dX2_strikes_143 ?_
  refine lv_iconst (v := 1) hx hb dX2_strikes_146 (by decide +kernel) ?_
  refine lv_iadd hx hb dX2_strikes_147 ?_
  refine g_putI C0 G in_X2 tyX2_ok nmX2 (ci := 2) rfl (hX.1 _ (xW_l hq0)) (fl := (xFlX2 q0)) ((hX.2.1 _ (xW_l hq0)).trans (xW_s hq0)) 11 (by decide) rfl q253 rfl dX2_strikes_148 ⟨rfl, rfl⟩ (fun σ1 H locs e_σ1 G => ?_)
  have h := letB_e h e_σ1
  refine lv_aload_n hx hb dX2_strikes_151 rfl (lv_at hl 0 rfl) ?_
  refine g_getC C0 G in_X2 (ci := 2) rfl (hX.1 _ (xW_l hq0)) (fl := (xFlX2 q0)) ((hX.2.1 _ (xW_l hq0)).trans (xW_s hq0)) 0 (by decide) rfl q234 dX2_strikes_152 ?_
  refine lv_iload_n hx hb dX2_strikes_155 rfl (lv_at hl 1 rfl) ?_
  refine lv_dup2_11 hx hb dX2_strikes_156 rfl rfl ?_
  obtain ⟨b_2, h⟩ := ckB_e h
  refine g_iald C0 G (n := 5) (hX.1 _ (xW_l1 hq0)) ((hX.2.1 _ (xW_l1 hq0)).trans (xW_s1 hq0)) b_2 dX2_strikes_157 ?_
  refine lv_iconst (v := 1) hx hb dX2_strikes_158 (by decide +kernel) ?_
  refine lv_isub hx hb dX2_strikes_159 ?_
  obtain ⟨b_3, h⟩ := ckB_e h
  refine g_iast C0 G (n := 5) (hX.1 _ (xW_l1 hq0)) ((hX.2.1 _ (xW_l1 hq0)).trans (xW_s1 hq0)) b_3 dX2_strikes_160 (fun σ4 H locs e_σ4 G => ?_)
  have h := letB_e h e_σ4
  refine lv_aload_n hx hb dX2_strikes_161 rfl (lv_at hl 0 rfl) ?_
  refine g_getC C0 G in_X2 (ci := 2) rfl (hX.1 _ (xW_l hq0)) (fl := (xFlX2 q0)) ((hX.2.1 _ (xW_l hq0)).trans (xW_s hq0)) 0 (by decide) rfl q234 dX2_strikes_162 ?_
  refine lv_iload_n hx hb dX2_strikes_165 rfl (lv_at hl 2 rfl) ?_
  refine lv_dup2_11 hx hb dX2_strikes_166 rfl rfl ?_
  obtain ⟨b_5, h⟩ := ckB_e h
  refine g_iald C0 G (n := 5) (hX.1 _ (xW_l1 hq0)) ((hX.2.1 _ (xW_l1 hq0)).trans (xW_s1 hq0)) b_5 dX2_strikes_167 ?_
  refine lv_iconst (v := 1) hx hb dX2_strikes_168 (by decide +kernel) ?_
  refine lv_iadd hx hb dX2_strikes_169 ?_
  obtain ⟨b_6, h⟩ := ckB_e h
  refine g_iast C0 G (n := 5) (hX.1 _ (xW_l1 hq0)) ((hX.2.1 _ (xW_l1 hq0)).trans (xW_s1 hq0)) b_6 dX2_strikes_170 (fun σ7 H locs e_σ7 G => ?_)
  have h := letB_e h e_σ7
  refine lv_aload_n hx hb dX2_strikes_171 rfl (lv_at hl 0 rfl) ?_
  refine g_getC C0 G in_X2 (ci := 2) rfl (hX.1 _ (xW_l hq0)) (fl := (xFlX2 q0)) ((hX.2.1 _ (xW_l hq0)).trans (xW_s hq0)) 0 (by decide) rfl q234 dX2_strikes_172 ?_
  refine lv_iload_n hx hb dX2_strikes_175 rfl (lv_at hl 2 rfl) ?_
  obtain ⟨b_8, h⟩ := ckB_e h
  refine g_iald C0 G (n := 5) (hX.1 _ (xW_l1 hq0)) ((hX.2.1 _ (xW_l1 hq0)).trans (xW_s1 hq0)) b_8 dX2_strikes_176 ?_
  refine lv_iconst (v := 2) hx hb dX2_strikes_177 (by decide +kernel) ?_
  refine lv_aload_n hx hb dX2_strikes_178 rfl (lv_at hl 0 rfl) ?_
  refine g_getC C0 G in_X2 (ci := 2) rfl (hX.1 _ (xW_l hq0)) (fl := (xFlX2 q0)) ((hX.2.1 _ (xW_l hq0)).trans (xW_s hq0)) 0 (by decide) rfl q234 dX2_strikes_179 ?_
  refine lv_iload_n hx hb dX2_strikes_182 rfl (lv_at hl 1 rfl) ?_
  obtain ⟨b_9, h⟩ := ckB_e h
  refine g_iald C0 G (n := 5) (hX.1 _ (xW_l1 hq0)) ((hX.2.1 _ (xW_l1 hq0)).trans (xW_s1 hq0)) b_9 dX2_strikes_183 ?_
  refine lv_imul hx hb dX2_strikes_184 ?_
  refine lv_icmp_le (tgt := 200) hx hb dX2_strikes_185 (by decide) (fun c10 => ?_) (fun c10 => ?_)
  · have h := ite_t h c10
    cases h
    exact Kr _ _ _ _ dX2_strikes_200 G
  · have h := ite_f h c10
    refine lv_aload_n hx hb dX2_strikes_188 rfl (lv_at hl 0 rfl) ?_
    refine lv_dup hx hb dX2_strikes_189 rfl ?_
    refine g_getI C0 G in_X2 (ci := 2) rfl (hX.1 _ (xW_l hq0)) (fl := (xFlX2 q0)) ((hX.2.1 _ (xW_l hq0)).trans (xW_s hq0)) 18 (by decide) rfl q267 dX2_strikes_190 ?_
    refine lv_iconst (v := 1) hx hb dX2_strikes_193 (by decide +kernel) ?_
    refine lv_iload_n hx hb dX2_strikes_194 rfl (lv_at hl 2 rfl) ?_
    refine lv_ishl hx hb dX2_strikes_195 ?_
    refine lv_ior hx hb dX2_strikes_196 ?_
    refine g_putI C0 G in_X2 tyX2_ok nmX2 (ci := 2) rfl (hX.1 _ (xW_l hq0)) (fl := (xFlX2 q0)) ((hX.2.1 _ (xW_l hq0)).trans (xW_s hq0)) 18 (by decide) rfl q267 rfl dX2_strikes_197 ⟨rfl, rfl⟩ (fun σ11 H locs e_σ11 G => ?_)
    have h := letB_e h e_σ11
    cases h
    exact Kr _ _ _ _ dX2_strikes_200 G
set_option maxHeartbeats 400000 in
theorem wX2_strikes_108 (C0 : Cx ad dc D RX2 cX2_strikes 4 p s m args meth c) (a1 : Int32) (a2 : Int32) (t0 : Int32) (σ : St) (hX : XOK ks sh) (hq0 : isW q0) (o : St) (h : fX2_strikes_108 q0 a1 a2 t0 σ = some o) (Kr : KrV p l e RmX2_strikes s m args below meth c cX2_strikes Q (GW sh ks ad dc D A s o)) (H : Heap) (locs : List Loc) (ls : Array Slot) (hl : lv_has ls 4 [(0, .ref (ad q0)), (1, .int a1), (2, .int a2)]) (G : GW sh ks ad dc D A s σ H locs) : W p l e RmX2_strikes s m args below meth c H locs 0 0 Q (F0 m 108 ls [.int t0]) := by
  have hx := C0.1
  have hb := C0.2.1
  unfold fX2_strikes_108 at h
  refine lv_istore_n (lv' := [(3, .int t0), (0, .ref (ad q0)), (1, .int a1), (2, .int a2)]) hx hb dX2_strikes_108 rfl hl (by decide) rfl (fun ls hl => ?_)
  refine lv_iload_n hx hb dX2_strikes_109 rfl (lv_at hl 0 rfl) ?_
  refine lv_if_eq (tgt := 130) hx hb dX2_strikes_110 (by decide) (fun c1 => ?_) (fun c1 => ?_)
  · have h := ite_t h c1
    exact wX2_strikes_130 C0 (σ) hX hq0 _ h Kr _ _ _ (lv_sub hl [1] rfl) G
  · have h := ite_f h c1
    refine lv_aload_n hx hb dX2_strikes_113 rfl (lv_at hl 1 rfl) ?_
    rcases ckH_e h with ⟨e_h, h⟩ | ⟨e_h, h⟩
    · refine g_getRn C0 G in_X2 (ci := 2) rfl (hX.1 _ (xW_l hq0)) (fl := (xFlX2 q0)) ((hX.2.1 _ (xW_l hq0)).trans (xW_s hq0)) 22 (by decide) rfl q275 dX2_strikes_114 e_h ?_
      refine lv_ifnullN (tgt := 141) hx hb dX2_strikes_117 (by decide) ?_
      exact wX2_strikes_141 C0 a1 a2 (σ) hX hq0 _ h Kr _ _ _ (lv_sub hl [1, 2, 3] rfl) G
    · refine g_getRs C0 G in_X2 (ci := 2) rfl (hX.1 _ (xW_l hq0)) (fl := (xFlX2 q0)) ((hX.2.1 _ (xW_l hq0)).trans (xW_s hq0)) 22 (by decide) rfl q275 dX2_strikes_114 e_h ?_
      refine lv_ifnull hx hb dX2_strikes_117 ?_
      refine lv_aload_n hx hb dX2_strikes_120 rfl (lv_at hl 1 rfl) ?_
      rcases ckH_e h with ⟨e_h, h⟩ | ⟨e_h, h⟩
      · refine g_getRn C0 G in_X2 (ci := 2) rfl (hX.1 _ (xW_l hq0)) (fl := (xFlX2 q0)) ((hX.2.1 _ (xW_l hq0)).trans (xW_s hq0)) 22 (by decide) rfl q275 dX2_strikes_121 e_h ?_
        cases h
      · refine g_getRs C0 G in_X2 (ci := 2) rfl (hX.1 _ (xW_l hq0)) (fl := (xFlX2 q0)) ((hX.2.1 _ (xW_l hq0)).trans (xW_s hq0)) 22 (by decide) rfl q275 dX2_strikes_121 e_h ?_
        obtain ⟨r2, σ3, h_r2, h⟩ := bn2_e h
        refine g_callVi (rest := []) C0 G hl (ci := 4) rfl (hX.1 48 (by decide)) (fl := xFlX4) ((hX.2.1 48 (by decide)).trans rfl) (kX4_slips (l := l) C0.2.2.2.2.2.2.1 G.2.2.1 G.2.2.2 hX h_r2) (cwV 0 C0.2.2.2.2.1 (lw_V q1302 q1303 q1304 q112 q1305) rfl rfl rfl hdX4_slips ⟨Nat.le_of_ble_eq_true rfl, Nat.le_of_ble_eq_true rfl⟩) rfl (Nat.le_of_ble_eq_true rfl) dX2_strikes_124 ⟨Nat.zero_le _, Nat.zero_le _⟩ (fun H locs G => ?_)
        refine lv_if_eq (tgt := 141) hx hb dX2_strikes_127 (by decide) (fun c4 => ?_) (fun c4 => ?_)
        · have h := ite_t h c4
          exact wX2_strikes_141 C0 a1 a2 (σ3) hX hq0 _ h Kr _ _ _ (lv_sub hl [1, 2, 3] rfl) G
        · have h := ite_f h c4
          exact wX2_strikes_130 C0 (σ3) hX hq0 _ h Kr _ _ _ (lv_sub hl [1] rfl) G
set_option maxHeartbeats 400000 in
theorem wX2_strikes_107 (C0 : Cx ad dc D RX2 cX2_strikes 4 p s m args meth c) (a1 : Int32) (a2 : Int32) (σ : St) (hX : XOK ks sh) (hq0 : isW q0) (o : St) (h : fX2_strikes_107 q0 a1 a2 σ = some o) (Kr : KrV p l e RmX2_strikes s m args below meth c cX2_strikes Q (GW sh ks ad dc D A s o)) (H : Heap) (locs : List Loc) (ls : Array Slot) (hl : lv_has ls 4 [(0, .ref (ad q0)), (1, .int a1), (2, .int a2)]) (G : GW sh ks ad dc D A s σ H locs) : W p l e RmX2_strikes s m args below meth c H locs 0 0 Q (F0 m 107 ls []) := by
  have hx := C0.1
  have hb := C0.2.1
  unfold fX2_strikes_107 at h
  refine lv_iconst (v := 0) hx hb dX2_strikes_107 (by decide +kernel) ?_
  exact wX2_strikes_108 C0 a1 a2 0 (σ) hX hq0 _ h Kr _ _ _ hl G
set_option maxHeartbeats 400000 in
theorem wX2_strikes_60 (C0 : Cx ad dc D RX2 cX2_strikes 4 p s m args meth c) (a1 : Int32) (a2 : Int32) (t1 : Int32) (t2 : Int32) (σ : St) (hX : XOK ks sh) (hq0 : isW q0) (o : St) (h : fX2_strikes_60 q0 a1 a2 t1 t2 σ = some o) (Kr : KrV p l e RmX2_strikes s m args below meth c cX2_strikes Q (GW sh ks ad dc D A s o)) (H : Heap) (locs : List Loc) (ls : Array Slot) (hl : lv_has ls 4 [(0, .ref (ad q0)), (1, .int a1), (2, .int a2)]) (G : GW sh ks ad dc D A s σ H locs) : W p l e RmX2_strikes s m args below meth c H locs 0 0 Q (F0 m 60 ls [.int t2, .int t1, .ref (ad q0)]) := by
  have hx := C0.1
  have hb := C0.2.1
  unfold fX2_strikes_60 at h
  obtain ⟨r1, σ2, h_r1, h⟩ := bn2_e h
  refine g_callVi (rest := []) C0 G hl (ci := 2) rfl (hX.1 _ (xW_l hq0)) (fl := (xFlX2 q0)) ((hX.2.1 _ (xW_l hq0)).trans (xW_s hq0)) (kX2_uses (l := l) C0.2.2.2.2.2.2.1 G.2.2.1 G.2.2.2 hX hq0 h_r1) (cwV 2 C0.2.2.2.2.1 (lw_V q1274 q1276 qs32 q110 q1277) rfl rfl rfl hdX2_uses ⟨Nat.le_of_ble_eq_true rfl, Nat.le_of_ble_eq_true rfl⟩) rfl (Nat.le_of_ble_eq_true rfl) dX2_strikes_60 ⟨Nat.zero_le _, Nat.zero_le _⟩ (fun H locs G => ?_)
  refine lv_if_ne (tgt := 67) hx hb dX2_strikes_63 (by decide) (fun c3 => ?_) (fun c3 => ?_)
  · have h := ite_f h c3
    refine lv_aload_n hx hb dX2_strikes_67 rfl (lv_at hl 0 rfl) ?_
    refine g_getC C0 G in_X2 (ci := 2) rfl (hX.1 _ (xW_l hq0)) (fl := (xFlX2 q0)) ((hX.2.1 _ (xW_l hq0)).trans (xW_s hq0)) 0 (by decide) rfl q234 dX2_strikes_68 ?_
    refine lv_iload_n hx hb dX2_strikes_71 rfl (lv_at hl 1 rfl) ?_
    obtain ⟨b_4, h⟩ := ckB_e h
    refine g_iald C0 G (n := 5) (hX.1 _ (xW_l1 hq0)) ((hX.2.1 _ (xW_l1 hq0)).trans (xW_s1 hq0)) b_4 dX2_strikes_72 ?_
    refine lv_iconst (v := 1) hx hb dX2_strikes_73 (by decide +kernel) ?_
    refine lv_icmp_le (tgt := 107) hx hb dX2_strikes_74 (by decide) (fun c5 => ?_) (fun c5 => ?_)
    · have h := ite_t h c5
      exact wX2_strikes_107 C0 a1 a2 (σ2) hX hq0 _ h Kr _ _ _ hl G
    · have h := ite_f h c5
      refine lv_aload_n hx hb dX2_strikes_77 rfl (lv_at hl 0 rfl) ?_
      refine g_getC C0 G in_X2 (ci := 2) rfl (hX.1 _ (xW_l hq0)) (fl := (xFlX2 q0)) ((hX.2.1 _ (xW_l hq0)).trans (xW_s hq0)) 0 (by decide) rfl q234 dX2_strikes_78 ?_
      refine lv_iload_n hx hb dX2_strikes_81 rfl (lv_at hl 2 rfl) ?_
      obtain ⟨b_6, h⟩ := ckB_e h
      refine g_iald C0 G (n := 5) (hX.1 _ (xW_l1 hq0)) ((hX.2.1 _ (xW_l1 hq0)).trans (xW_s1 hq0)) b_6 dX2_strikes_82 ?_
      refine lv_bipush (v := 9) hx hb dX2_strikes_83 (by decide +kernel) ?_
      refine lv_icmp_ge (tgt := 107) hx hb dX2_strikes_85 (by decide) (fun c7 => ?_) (fun c7 => ?_)
      · have h := ite_t h c7
        exact wX2_strikes_107 C0 a1 a2 (σ2) hX hq0 _ h Kr _ _ _ hl G
      · have h := ite_f h c7
        refine lv_aload_n hx hb dX2_strikes_88 rfl (lv_at hl 0 rfl) ?_
        refine g_getI C0 G in_X2 (ci := 2) rfl (hX.1 _ (xW_l hq0)) (fl := (xFlX2 q0)) ((hX.2.1 _ (xW_l hq0)).trans (xW_s hq0)) 15 (by decide) rfl q261 dX2_strikes_89 ?_
        refine lv_iload_n hx hb dX2_strikes_92 rfl (lv_at hl 1 rfl) ?_
        refine lv_iload_n hx hb dX2_strikes_93 rfl (lv_at hl 2 rfl) ?_
        refine va_mmin hx hb (C0.2.2.1.trans hl.1.symm) C0.2.2.2.1 (C0.2.2.2.2.1 _ q1301) (C0.2.2.2.2.1 _ q575) (C0.2.2.2.2.1 _ q145) (C0.2.2.2.2.1 _ q576) (Nat.le_of_ble_eq_true rfl) (Nat.le_of_ble_eq_true rfl) (Nat.zero_le _) (Nat.zero_le _) dX2_strikes_94 ?_
        refine lv_ishr hx hb dX2_strikes_97 ?_
        refine lv_iconst (v := 1) hx hb dX2_strikes_98 (by decide +kernel) ?_
        refine lv_iand hx hb dX2_strikes_99 ?_
        refine lv_if_ne (tgt := 107) hx hb dX2_strikes_100 (by decide) (fun c8 => ?_) (fun c8 => ?_)
        · have h := ite_f h c8
          exact wX2_strikes_107 C0 a1 a2 (σ2) hX hq0 _ h Kr _ _ _ hl G
        · have h := ite_t h c8
          refine lv_iconst (v := 1) hx hb dX2_strikes_103 (by decide +kernel) ?_
          refine lv_goto (tgt := 108) hx hb dX2_strikes_104 (by decide) ?_
          exact wX2_strikes_108 C0 a1 a2 1 (σ2) hX hq0 _ h Kr _ _ _ hl G
  · have h := ite_t h c3
    cases h
    exact Kr _ _ _ _ dX2_strikes_66 G
set_option maxHeartbeats 400000 in
theorem wX2_strikes_55 (C0 : Cx ad dc D RX2 cX2_strikes 4 p s m args meth c) (a1 : Int32) (a2 : Int32) (t1 : Int32) (σ : St) (hX : XOK ks sh) (hq0 : isW q0) (o : St) (h : fX2_strikes_55 q0 a1 a2 t1 σ = some o) (Kr : KrV p l e RmX2_strikes s m args below meth c cX2_strikes Q (GW sh ks ad dc D A s o)) (H : Heap) (locs : List Loc) (ls : Array Slot) (hl : lv_has ls 4 [(0, .ref (ad q0)), (1, .int a1), (2, .int a2)]) (G : GW sh ks ad dc D A s σ H locs) : W p l e RmX2_strikes s m args below meth c H locs 0 0 Q (F0 m 55 ls [.int t1, .ref (ad q0)]) := by
  have hx := C0.1
  have hb := C0.2.1
  unfold fX2_strikes_55 at h
  refine lv_iconst (v := 1) hx hb dX2_strikes_55 (by decide +kernel) ?_
  refine lv_goto (tgt := 60) hx hb dX2_strikes_56 (by decide) ?_
  exact wX2_strikes_60 C0 a1 a2 t1 1 (σ) hX hq0 _ h Kr _ _ _ hl G
set_option maxHeartbeats 400000 in
theorem wX2_strikes_0 (C0 : Cx ad dc D RX2 cX2_strikes 4 p s m args meth c) (a1 : Int32) (a2 : Int32) (σ : St) (hX : XOK ks sh) (hq0 : isW q0) (o : St) (h : fX2_strikes q0 a1 a2 σ = some o) (Kr : KrV p l e RmX2_strikes s m args below meth c cX2_strikes Q (GW sh ks ad dc D A s o)) (H : Heap) (locs : List Loc) (ls : Array Slot) (hl : lv_has ls 4 [(0, .ref (ad q0)), (1, .int a1), (2, .int a2)]) (G : GW sh ks ad dc D A s σ H locs) : W p l e RmX2_strikes s m args below meth c H locs 0 0 Q (F0 m 0 ls []) := by
  have hx := C0.1
  have hb := C0.2.1
  unfold fX2_strikes at h
  refine lv_aload_n hx hb dX2_strikes_0 rfl (lv_at hl 0 rfl) ?_
  refine lv_iload_n hx hb dX2_strikes_1 rfl (lv_at hl 1 rfl) ?_
  obtain ⟨r1, h_r1, h⟩ := bn1_e h
  refine g_callVi (rest := []) C0 G hl (ci := 2) rfl (hX.1 _ (xW_l hq0)) (fl := (xFlX2 q0)) ((hX.2.1 _ (xW_l hq0)).trans (xW_s hq0)) (kX2_isCell (l := l) C0.2.2.2.2.2.2.1 G.2.2.1 G.2.2.2 hX hq0 h_r1) (cwV 1 C0.2.2.2.2.1 (lw_V q1222 q1223 q1224 q110 q1225) rfl rfl rfl hdX2_isCell ⟨Nat.le_of_ble_eq_true rfl, Nat.le_of_ble_eq_true rfl⟩) rfl (Nat.le_of_ble_eq_true rfl) dX2_strikes_2 ⟨Nat.zero_le _, Nat.zero_le _⟩ (fun H locs G => ?_)
  refine lv_if_eq (tgt := 26) hx hb dX2_strikes_5 (by decide) (fun c2 => ?_) (fun c2 => ?_)
  · have h := ite_t h c2
    exact wX2_strikes_26 C0 (σ) hX hq0 _ h Kr _ _ _ (lv_sub hl [0] rfl) G
  · have h := ite_f h c2
    refine lv_aload_n hx hb dX2_strikes_8 rfl (lv_at hl 0 rfl) ?_
    refine lv_iload_n hx hb dX2_strikes_9 rfl (lv_at hl 2 rfl) ?_
    obtain ⟨r3, h_r3, h⟩ := bn1_e h
    refine g_callVi (rest := []) C0 G hl (ci := 2) rfl (hX.1 _ (xW_l hq0)) (fl := (xFlX2 q0)) ((hX.2.1 _ (xW_l hq0)).trans (xW_s hq0)) (kX2_isCell (l := l) C0.2.2.2.2.2.2.1 G.2.2.1 G.2.2.2 hX hq0 h_r3) (cwV 1 C0.2.2.2.2.1 (lw_V q1222 q1223 q1224 q110 q1225) rfl rfl rfl hdX2_isCell ⟨Nat.le_of_ble_eq_true rfl, Nat.le_of_ble_eq_true rfl⟩) rfl (Nat.le_of_ble_eq_true rfl) dX2_strikes_10 ⟨Nat.zero_le _, Nat.zero_le _⟩ (fun H locs G => ?_)
    refine lv_if_eq (tgt := 26) hx hb dX2_strikes_13 (by decide) (fun c4 => ?_) (fun c4 => ?_)
    · have h := ite_t h c4
      exact wX2_strikes_26 C0 (σ) hX hq0 _ h Kr _ _ _ (lv_sub hl [0] rfl) G
    · have h := ite_f h c4
      refine lv_iload_n hx hb dX2_strikes_16 rfl (lv_at hl 1 rfl) ?_
      refine lv_iload_n hx hb dX2_strikes_17 rfl (lv_at hl 2 rfl) ?_
      refine lv_isub hx hb dX2_strikes_18 ?_
      refine va_mabs hx hb (C0.2.2.1.trans hl.1.symm) C0.2.2.2.1 (C0.2.2.2.2.1 _ q1298) (C0.2.2.2.2.1 _ q1299) (C0.2.2.2.2.1 _ q145) (C0.2.2.2.2.1 _ q1300) (Nat.le_of_ble_eq_true rfl) (Nat.le_of_ble_eq_true rfl) (Nat.zero_le _) (Nat.zero_le _) dX2_strikes_19 ?_
      refine lv_iconst (v := 1) hx hb dX2_strikes_22 (by decide +kernel) ?_
      refine lv_icmp_eq (tgt := 37) hx hb dX2_strikes_23 (by decide) (fun c5 => ?_) (fun c5 => ?_)
      · have h := ite_t h c5
        refine lv_aload_n hx hb dX2_strikes_37 rfl (lv_at hl 0 rfl) ?_
        refine lv_iload_n hx hb dX2_strikes_38 rfl (lv_at hl 1 rfl) ?_
        refine lv_aload_n hx hb dX2_strikes_39 rfl (lv_at hl 0 rfl) ?_
        refine lv_iload_n hx hb dX2_strikes_40 rfl (lv_at hl 1 rfl) ?_
        obtain ⟨r6, h_r6, h⟩ := bn1_e h
        refine g_callVi (rest := [.int a1, .ref (ad q0)]) C0 G hl (ci := 2) rfl (hX.1 _ (xW_l hq0)) (fl := (xFlX2 q0)) ((hX.2.1 _ (xW_l hq0)).trans (xW_s hq0)) (kX2_isHot (l := l) C0.2.2.2.2.2.2.1 G.2.2.1 G.2.2.2 hX hq0 h_r6) (cwV 1 C0.2.2.2.2.1 (lw_V q1273 q1228 q1229 q110 q1230) rfl rfl rfl hdX2_isHot ⟨Nat.le_of_ble_eq_true rfl, Nat.le_of_ble_eq_true rfl⟩) rfl (Nat.le_of_ble_eq_true rfl) dX2_strikes_41 ⟨Nat.zero_le _, Nat.zero_le _⟩ (fun H locs G => ?_)
        refine lv_if_ne (tgt := 55) hx hb dX2_strikes_44 (by decide) (fun c7 => ?_) (fun c7 => ?_)
        · have h := ite_f h c7
          exact wX2_strikes_55 C0 a1 a2 a1 (σ) hX hq0 _ h Kr _ _ _ hl G
        · have h := ite_t h c7
          refine lv_aload_n hx hb dX2_strikes_47 rfl (lv_at hl 0 rfl) ?_
          refine lv_iload_n hx hb dX2_strikes_48 rfl (lv_at hl 2 rfl) ?_
          obtain ⟨r8, h_r8, h⟩ := bn1_e h
          refine g_callVi (rest := [.int a1, .ref (ad q0)]) C0 G hl (ci := 2) rfl (hX.1 _ (xW_l hq0)) (fl := (xFlX2 q0)) ((hX.2.1 _ (xW_l hq0)).trans (xW_s hq0)) (kX2_isHot (l := l) C0.2.2.2.2.2.2.1 G.2.2.1 G.2.2.2 hX hq0 h_r8) (cwV 1 C0.2.2.2.2.1 (lw_V q1273 q1228 q1229 q110 q1230) rfl rfl rfl hdX2_isHot ⟨Nat.le_of_ble_eq_true rfl, Nat.le_of_ble_eq_true rfl⟩) rfl (Nat.le_of_ble_eq_true rfl) dX2_strikes_49 ⟨Nat.zero_le _, Nat.zero_le _⟩ (fun H locs G => ?_)
          refine lv_if_eq (tgt := 59) hx hb dX2_strikes_52 (by decide) (fun c9 => ?_) (fun c9 => ?_)
          · have h := ite_t h c9
            refine lv_iconst (v := 0) hx hb dX2_strikes_59 (by decide +kernel) ?_
            exact wX2_strikes_60 C0 a1 a2 a1 0 (σ) hX hq0 _ h Kr _ _ _ hl G
          · have h := ite_f h c9
            exact wX2_strikes_55 C0 a1 a2 a1 (σ) hX hq0 _ h Kr _ _ _ hl G
      · have h := ite_f h c5
        exact wX2_strikes_26 C0 (σ) hX hq0 _ h Kr _ _ _ (lv_sub hl [0] rfl) G
theorem kX2_strikes {l : Launch} {ad : Nat → Nat} {dc : Nat → ClassId} {D : va_G} {A : Nat → Prop} {q0 : Nat} (hi : ∀ i j, ad i = ad j → i = j) (hn : ks.Nodup) (hA : ∀ k, k ∈ ks → A (ad k)) {σ : St} {a1 : Int32} {a2 : Int32}  {σ' : St} (hX : XOK ks sh) (hq0 : isW q0) (h : fX2_strikes q0 a1 a2 σ = some (σ')) : Met l yX2_strikes (ws_ yX2_strikes cX2_strikes 4 none) RmX2_strikes (gPc sh ks ad dc D σ [.ref (ad q0), .int a1, .int a2]) (gQv sh ks ad dc D A σ') 0 0 A :=
  g_metV (by decide) rfl hi hn hA (Nat.le_of_ble_eq_true rfl) (fun p e s m below meth c Q C0 Kr ls hl G => wX2_strikes_0 C0 a1 a2 σ hX hq0 (σ') h Kr _ _ ls hl G)
-- X2_shoulders
abbrev RmX2_shoulders : Room := { frames := 2, cells := 0, slots := 0, locals := 43 }
theorem hdX2_shoulders : yX2_shoulders.cls = RX2 ∧ yX2_shoulders.cls ≠ "java/lang/invoke/MethodHandle" ∧ yX2_shoulders.cls ≠ "java/lang/invoke/VarHandle" ∧ (parseMethodDescriptor yX2_shoulders.desc).map (fun d => d.parameters.length) = some 1 := by decide +kernel
set_option maxHeartbeats 400000 in
theorem wX2_shoulders_18 (C0 : Cx ad dc D RX2 cX2_shoulders 2 p s m args meth c) (σ : St) (hX : XOK ks sh) (hq0 : isW q0) (o : St) (h : fX2_shoulders_18 q0 σ = some o) (Kr : KrV p l e RmX2_shoulders s m args below meth c cX2_shoulders Q (GW sh ks ad dc D A s o)) (H : Heap) (locs : List Loc) (ls : Array Slot) (hl : lv_has ls 2 [(0, .ref (ad q0))]) (G : GW sh ks ad dc D A s σ H locs) : W p l e RmX2_shoulders s m args below meth c H locs 0 0 Q (F0 m 18 ls []) := by
  have hx := C0.1
  have hb := C0.2.1
  unfold fX2_shoulders_18 at h
  refine lv_aload_n hx hb dX2_shoulders_18 rfl (lv_at hl 0 rfl) ?_
  refine lv_dup hx hb dX2_shoulders_19 rfl ?_
  refine g_getI C0 G in_X2 (ci := 2) rfl (hX.1 _ (xW_l hq0)) (fl := (xFlX2 q0)) ((hX.2.1 _ (xW_l hq0)).trans (xW_s hq0)) 12 (by decide) rfl q255 dX2_shoulders_20 ?_
  refine lv_iconst (v := 1) hx hb dX2_shoulders_23 (by decide +kernel) ?_
  refine lv_iadd hx hb dX2_shoulders_24 ?_
  refine g_putI C0 G in_X2 tyX2_ok nmX2 (ci := 2) rfl (hX.1 _ (xW_l hq0)) (fl := (xFlX2 q0)) ((hX.2.1 _ (xW_l hq0)).trans (xW_s hq0)) 12 (by decide) rfl q255 rfl dX2_shoulders_25 ⟨rfl, rfl⟩ (fun σ1 H locs e_σ1 G => ?_)
  have h := letB_e h e_σ1
  refine lv_goto (tgt := 56) hx hb dX2_shoulders_28 (by decide) ?_
  cases h
  exact Kr _ _ _ _ dX2_shoulders_56 G
set_option maxHeartbeats 400000 in
theorem wX2_shoulders_0 (C0 : Cx ad dc D RX2 cX2_shoulders 2 p s m args meth c) (a1 : Int32) (σ : St) (hX : XOK ks sh) (hq0 : isW q0) (o : St) (h : fX2_shoulders q0 a1 σ = some o) (Kr : KrV p l e RmX2_shoulders s m args below meth c cX2_shoulders Q (GW sh ks ad dc D A s o)) (H : Heap) (locs : List Loc) (ls : Array Slot) (hl : lv_has ls 2 [(0, .ref (ad q0)), (1, .int a1)]) (G : GW sh ks ad dc D A s σ H locs) : W p l e RmX2_shoulders s m args below meth c H locs 0 0 Q (F0 m 0 ls []) := by
  have hx := C0.1
  have hb := C0.2.1
  unfold fX2_shoulders at h
  refine lv_aload_n hx hb dX2_shoulders_0 rfl (lv_at hl 0 rfl) ?_
  refine lv_iload_n hx hb dX2_shoulders_1 rfl (lv_at hl 1 rfl) ?_
  obtain ⟨r1, h_r1, h⟩ := bn1_e h
  refine g_callVi (rest := []) C0 G hl (ci := 2) rfl (hX.1 _ (xW_l hq0)) (fl := (xFlX2 q0)) ((hX.2.1 _ (xW_l hq0)).trans (xW_s hq0)) (kX2_isCell (l := l) C0.2.2.2.2.2.2.1 G.2.2.1 G.2.2.2 hX hq0 h_r1) (cwV 1 C0.2.2.2.2.1 (lw_V q1222 q1223 q1224 q110 q1225) rfl rfl rfl hdX2_isCell ⟨Nat.le_of_ble_eq_true rfl, Nat.le_of_ble_eq_true rfl⟩) rfl (Nat.le_of_ble_eq_true rfl) dX2_shoulders_2 ⟨Nat.zero_le _, Nat.zero_le _⟩ (fun H locs G => ?_)
  refine lv_if_eq (tgt := 18) hx hb dX2_shoulders_5 (by decide) (fun c2 => ?_) (fun c2 => ?_)
  · have h := ite_t h c2
    exact wX2_shoulders_18 C0 (σ) hX hq0 _ h Kr _ _ _ (lv_sub hl [0] rfl) G
  · have h := ite_f h c2
    refine lv_aload_n hx hb dX2_shoulders_8 rfl (lv_at hl 0 rfl) ?_
    refine lv_iload_n hx hb dX2_shoulders_9 rfl (lv_at hl 1 rfl) ?_
    refine lv_iconst (v := 1) hx hb dX2_shoulders_10 (by decide +kernel) ?_
    refine lv_iadd hx hb dX2_shoulders_11 ?_
    obtain ⟨r3, h_r3, h⟩ := bn1_e h
    refine g_callVi (rest := []) C0 G hl (ci := 2) rfl (hX.1 _ (xW_l hq0)) (fl := (xFlX2 q0)) ((hX.2.1 _ (xW_l hq0)).trans (xW_s hq0)) (kX2_isCell (l := l) C0.2.2.2.2.2.2.1 G.2.2.1 G.2.2.2 hX hq0 h_r3) (cwV 1 C0.2.2.2.2.1 (lw_V q1222 q1223 q1224 q110 q1225) rfl rfl rfl hdX2_isCell ⟨Nat.le_of_ble_eq_true rfl, Nat.le_of_ble_eq_true rfl⟩) rfl (Nat.le_of_ble_eq_true rfl) dX2_shoulders_12 ⟨Nat.zero_le _, Nat.zero_le _⟩ (fun H locs G => ?_)
    refine lv_if_ne (tgt := 31) hx hb dX2_shoulders_15 (by decide) (fun c4 => ?_) (fun c4 => ?_)
    · have h := ite_f h c4
      refine lv_aload_n hx hb dX2_shoulders_31 rfl (lv_at hl 0 rfl) ?_
      refine lv_iload_n hx hb dX2_shoulders_32 rfl (lv_at hl 1 rfl) ?_
      refine lv_aload_n hx hb dX2_shoulders_33 rfl (lv_at hl 0 rfl) ?_
      refine lv_iload_n hx hb dX2_shoulders_34 rfl (lv_at hl 1 rfl) ?_
      obtain ⟨r5, h_r5, h⟩ := bn1_e h
      refine g_callVi (rest := [.int a1, .ref (ad q0)]) C0 G hl (ci := 2) rfl (hX.1 _ (xW_l hq0)) (fl := (xFlX2 q0)) ((hX.2.1 _ (xW_l hq0)).trans (xW_s hq0)) (kX2_isHot (l := l) C0.2.2.2.2.2.2.1 G.2.2.1 G.2.2.2 hX hq0 h_r5) (cwV 1 C0.2.2.2.2.1 (lw_V q1273 q1228 q1229 q110 q1230) rfl rfl rfl hdX2_isHot ⟨Nat.le_of_ble_eq_true rfl, Nat.le_of_ble_eq_true rfl⟩) rfl (Nat.le_of_ble_eq_true rfl) dX2_shoulders_35 ⟨Nat.zero_le _, Nat.zero_le _⟩ (fun H locs G => ?_)
      obtain ⟨r6, σ7, h_r6, h⟩ := bn2_e h
      refine g_callVi (rest := []) C0 G hl (ci := 2) rfl (hX.1 _ (xW_l hq0)) (fl := (xFlX2 q0)) ((hX.2.1 _ (xW_l hq0)).trans (xW_s hq0)) (kX2_uses (l := l) C0.2.2.2.2.2.2.1 G.2.2.1 G.2.2.2 hX hq0 h_r6) (cwV 2 C0.2.2.2.2.1 (lw_V q1274 q1276 qs32 q110 q1277) rfl rfl rfl hdX2_uses ⟨Nat.le_of_ble_eq_true rfl, Nat.le_of_ble_eq_true rfl⟩) rfl (Nat.le_of_ble_eq_true rfl) dX2_shoulders_38 ⟨Nat.zero_le _, Nat.zero_le _⟩ (fun H locs G => ?_)
      refine lv_if_eq (tgt := 56) hx hb dX2_shoulders_41 (by decide) (fun c8 => ?_) (fun c8 => ?_)
      · have h := ite_t h c8
        cases h
        exact Kr _ _ _ _ dX2_shoulders_56 G
      · have h := ite_f h c8
        refine lv_aload_n hx hb dX2_shoulders_44 rfl (lv_at hl 0 rfl) ?_
        refine lv_dup hx hb dX2_shoulders_45 rfl ?_
        refine g_getI C0 G in_X2 (ci := 2) rfl (hX.1 _ (xW_l hq0)) (fl := (xFlX2 q0)) ((hX.2.1 _ (xW_l hq0)).trans (xW_s hq0)) 15 (by decide) rfl q261 dX2_shoulders_46 ?_
        refine lv_iconst (v := 1) hx hb dX2_shoulders_49 (by decide +kernel) ?_
        refine lv_iload_n hx hb dX2_shoulders_50 rfl (lv_at hl 1 rfl) ?_
        refine lv_ishl hx hb dX2_shoulders_51 ?_
        refine lv_ior hx hb dX2_shoulders_52 ?_
        refine g_putI C0 G in_X2 tyX2_ok nmX2 (ci := 2) rfl (hX.1 _ (xW_l hq0)) (fl := (xFlX2 q0)) ((hX.2.1 _ (xW_l hq0)).trans (xW_s hq0)) 15 (by decide) rfl q261 rfl dX2_shoulders_53 ⟨rfl, rfl⟩ (fun σ9 H locs e_σ9 G => ?_)
        have h := letB_e h e_σ9
        cases h
        exact Kr _ _ _ _ dX2_shoulders_56 G
    · have h := ite_t h c4
      exact wX2_shoulders_18 C0 (σ) hX hq0 _ h Kr _ _ _ (lv_sub hl [0] rfl) G
theorem kX2_shoulders {l : Launch} {ad : Nat → Nat} {dc : Nat → ClassId} {D : va_G} {A : Nat → Prop} {q0 : Nat} (hi : ∀ i j, ad i = ad j → i = j) (hn : ks.Nodup) (hA : ∀ k, k ∈ ks → A (ad k)) {σ : St} {a1 : Int32}  {σ' : St} (hX : XOK ks sh) (hq0 : isW q0) (h : fX2_shoulders q0 a1 σ = some (σ')) : Met l yX2_shoulders (ws_ yX2_shoulders cX2_shoulders 2 none) RmX2_shoulders (gPc sh ks ad dc D σ [.ref (ad q0), .int a1]) (gQv sh ks ad dc D A σ') 0 0 A :=
  g_metV (by decide) rfl hi hn hA (Nat.le_of_ble_eq_true rfl) (fun p e s m below meth c Q C0 Kr ls hl G => wX2_shoulders_0 C0 a1 σ hX hq0 (σ') h Kr _ _ ls hl G)
-- X2_punches
abbrev RmX2_punches : Room := { frames := 2, cells := 0, slots := 0, locals := 43 }
theorem hdX2_punches : yX2_punches.cls = RX2 ∧ yX2_punches.cls ≠ "java/lang/invoke/MethodHandle" ∧ yX2_punches.cls ≠ "java/lang/invoke/VarHandle" ∧ (parseMethodDescriptor yX2_punches.desc).map (fun d => d.parameters.length) = some 1 := by decide +kernel
set_option maxHeartbeats 400000 in
theorem wX2_punches_0 (C0 : Cx ad dc D RX2 cX2_punches 2 p s m args meth c) (a1 : Int32) (σ : St) (hX : XOK ks sh) (hq0 : isW q0) (o : St) (h : fX2_punches q0 a1 σ = some o) (Kr : KrV p l e RmX2_punches s m args below meth c cX2_punches Q (GW sh ks ad dc D A s o)) (H : Heap) (locs : List Loc) (ls : Array Slot) (hl : lv_has ls 2 [(0, .ref (ad q0)), (1, .int a1)]) (G : GW sh ks ad dc D A s σ H locs) : W p l e RmX2_punches s m args below meth c H locs 0 0 Q (F0 m 0 ls []) := by
  have hx := C0.1
  have hb := C0.2.1
  unfold fX2_punches at h
  refine lv_aload_n hx hb dX2_punches_0 rfl (lv_at hl 0 rfl) ?_
  refine lv_iload_n hx hb dX2_punches_1 rfl (lv_at hl 1 rfl) ?_
  obtain ⟨r1, h_r1, h⟩ := bn1_e h
  refine g_callVi (rest := []) C0 G hl (ci := 2) rfl (hX.1 _ (xW_l hq0)) (fl := (xFlX2 q0)) ((hX.2.1 _ (xW_l hq0)).trans (xW_s hq0)) (kX2_isCell (l := l) C0.2.2.2.2.2.2.1 G.2.2.1 G.2.2.2 hX hq0 h_r1) (cwV 1 C0.2.2.2.2.1 (lw_V q1222 q1223 q1224 q110 q1225) rfl rfl rfl hdX2_isCell ⟨Nat.le_of_ble_eq_true rfl, Nat.le_of_ble_eq_true rfl⟩) rfl (Nat.le_of_ble_eq_true rfl) dX2_punches_2 ⟨Nat.zero_le _, Nat.zero_le _⟩ (fun H locs G => ?_)
  refine lv_if_ne (tgt := 19) hx hb dX2_punches_5 (by decide) (fun c2 => ?_) (fun c2 => ?_)
  · have h := ite_f h c2
    refine lv_aload_n hx hb dX2_punches_19 rfl (lv_at hl 0 rfl) ?_
    refine lv_iload_n hx hb dX2_punches_20 rfl (lv_at hl 1 rfl) ?_
    refine lv_aload_n hx hb dX2_punches_21 rfl (lv_at hl 0 rfl) ?_
    refine lv_iload_n hx hb dX2_punches_22 rfl (lv_at hl 1 rfl) ?_
    obtain ⟨r3, h_r3, h⟩ := bn1_e h
    refine g_callVi (rest := [.int a1, .ref (ad q0)]) C0 G hl (ci := 2) rfl (hX.1 _ (xW_l hq0)) (fl := (xFlX2 q0)) ((hX.2.1 _ (xW_l hq0)).trans (xW_s hq0)) (kX2_isHot (l := l) C0.2.2.2.2.2.2.1 G.2.2.1 G.2.2.2 hX hq0 h_r3) (cwV 1 C0.2.2.2.2.1 (lw_V q1273 q1228 q1229 q110 q1230) rfl rfl rfl hdX2_isHot ⟨Nat.le_of_ble_eq_true rfl, Nat.le_of_ble_eq_true rfl⟩) rfl (Nat.le_of_ble_eq_true rfl) dX2_punches_23 ⟨Nat.zero_le _, Nat.zero_le _⟩ (fun H locs G => ?_)
    obtain ⟨r4, σ5, h_r4, h⟩ := bn2_e h
    refine g_callVi (rest := []) C0 G hl (ci := 2) rfl (hX.1 _ (xW_l hq0)) (fl := (xFlX2 q0)) ((hX.2.1 _ (xW_l hq0)).trans (xW_s hq0)) (kX2_uses (l := l) C0.2.2.2.2.2.2.1 G.2.2.1 G.2.2.2 hX hq0 h_r4) (cwV 2 C0.2.2.2.2.1 (lw_V q1274 q1276 qs32 q110 q1277) rfl rfl rfl hdX2_uses ⟨Nat.le_of_ble_eq_true rfl, Nat.le_of_ble_eq_true rfl⟩) rfl (Nat.le_of_ble_eq_true rfl) dX2_punches_26 ⟨Nat.zero_le _, Nat.zero_le _⟩ (fun H locs G => ?_)
    refine lv_if_ne (tgt := 33) hx hb dX2_punches_29 (by decide) (fun c6 => ?_) (fun c6 => ?_)
    · have h := ite_f h c6
      refine lv_aload_n hx hb dX2_punches_33 rfl (lv_at hl 0 rfl) ?_
      refine g_getC C0 G in_X2 (ci := 2) rfl (hX.1 _ (xW_l hq0)) (fl := (xFlX2 q0)) ((hX.2.1 _ (xW_l hq0)).trans (xW_s hq0)) 1 (by decide) rfl q236 dX2_punches_34 ?_
      refine lv_iload_n hx hb dX2_punches_37 rfl (lv_at hl 1 rfl) ?_
      refine lv_dup2_11 hx hb dX2_punches_38 rfl rfl ?_
      obtain ⟨b_7, h⟩ := ckB_e h
      refine g_iald C0 G (n := 5) (hX.1 _ (xW_l2 hq0)) ((hX.2.1 _ (xW_l2 hq0)).trans (xW_s2 hq0)) b_7 dX2_punches_39 ?_
      refine lv_iconst (v := 1) hx hb dX2_punches_40 (by decide +kernel) ?_
      refine lv_iadd hx hb dX2_punches_41 ?_
      obtain ⟨b_8, h⟩ := ckB_e h
      refine g_iast C0 G (n := 5) (hX.1 _ (xW_l2 hq0)) ((hX.2.1 _ (xW_l2 hq0)).trans (xW_s2 hq0)) b_8 dX2_punches_42 (fun σ9 H locs e_σ9 G => ?_)
      have h := letB_e h e_σ9
      refine lv_aload_n hx hb dX2_punches_43 rfl (lv_at hl 0 rfl) ?_
      refine g_getC C0 G in_X2 (ci := 2) rfl (hX.1 _ (xW_l hq0)) (fl := (xFlX2 q0)) ((hX.2.1 _ (xW_l hq0)).trans (xW_s hq0)) 1 (by decide) rfl q236 dX2_punches_44 ?_
      refine lv_iload_n hx hb dX2_punches_47 rfl (lv_at hl 1 rfl) ?_
      obtain ⟨b_10, h⟩ := ckB_e h
      refine g_iald C0 G (n := 5) (hX.1 _ (xW_l2 hq0)) ((hX.2.1 _ (xW_l2 hq0)).trans (xW_s2 hq0)) b_10 dX2_punches_48 ?_
      refine lv_iconst (v := 2) hx hb dX2_punches_49 (by decide +kernel) ?_
      refine lv_icmp_eq (tgt := 54) hx hb dX2_punches_50 (by decide) (fun c11 => ?_) (fun c11 => ?_)
      · have h := ite_t h c11
        refine lv_aload_n hx hb dX2_punches_54 rfl (lv_at hl 0 rfl) ?_
        refine lv_dup hx hb dX2_punches_55 rfl ?_
        refine g_getI C0 G in_X2 (ci := 2) rfl (hX.1 _ (xW_l hq0)) (fl := (xFlX2 q0)) ((hX.2.1 _ (xW_l hq0)).trans (xW_s hq0)) 16 (by decide) rfl q263 dX2_punches_56 ?_
        refine lv_iconst (v := 1) hx hb dX2_punches_59 (by decide +kernel) ?_
        refine lv_iload_n hx hb dX2_punches_60 rfl (lv_at hl 1 rfl) ?_
        refine lv_ishl hx hb dX2_punches_61 ?_
        refine lv_ior hx hb dX2_punches_62 ?_
        refine g_putI C0 G in_X2 tyX2_ok nmX2 (ci := 2) rfl (hX.1 _ (xW_l hq0)) (fl := (xFlX2 q0)) ((hX.2.1 _ (xW_l hq0)).trans (xW_s hq0)) 16 (by decide) rfl q263 rfl dX2_punches_63 ⟨rfl, rfl⟩ (fun σ12 H locs e_σ12 G => ?_)
        have h := letB_e h e_σ12
        refine lv_aload_n hx hb dX2_punches_66 rfl (lv_at hl 0 rfl) ?_
        refine lv_iload_n hx hb dX2_punches_67 rfl (lv_at hl 1 rfl) ?_
        obtain ⟨σ14, h_r13, h⟩ := bn1_e h
        refine g_callVv (rest := []) C0 G hl (ci := 2) rfl (hX.1 _ (xW_l hq0)) (fl := (xFlX2 q0)) ((hX.2.1 _ (xW_l hq0)).trans (xW_s hq0)) (kX2_scales (l := l) C0.2.2.2.2.2.2.1 G.2.2.1 G.2.2.2 hX hq0 h_r13) (cwV 1 C0.2.2.2.2.1 (lw_V q1257 q1259 qs31 q110 q1260) rfl rfl rfl hdX2_scales ⟨Nat.le_of_ble_eq_true rfl, Nat.le_of_ble_eq_true rfl⟩) rfl (Nat.le_of_ble_eq_true rfl) dX2_punches_68 ⟨Nat.zero_le _, Nat.zero_le _⟩ (fun H locs G => ?_)
        cases h
        exact Kr _ _ _ _ dX2_punches_71 G
      · have h := ite_f h c11
        cases h
        exact Kr _ _ _ _ dX2_punches_53 G
    · have h := ite_t h c6
      cases h
      exact Kr _ _ _ _ dX2_punches_32 G
  · have h := ite_t h c2
    refine lv_aload_n hx hb dX2_punches_8 rfl (lv_at hl 0 rfl) ?_
    refine lv_dup hx hb dX2_punches_9 rfl ?_
    refine g_getI C0 G in_X2 (ci := 2) rfl (hX.1 _ (xW_l hq0)) (fl := (xFlX2 q0)) ((hX.2.1 _ (xW_l hq0)).trans (xW_s hq0)) 12 (by decide) rfl q255 dX2_punches_10 ?_
    refine lv_iconst (v := 1) hx hb dX2_punches_13 (by decide +kernel) ?_
    refine lv_iadd hx hb dX2_punches_14 ?_
    refine g_putI C0 G in_X2 tyX2_ok nmX2 (ci := 2) rfl (hX.1 _ (xW_l hq0)) (fl := (xFlX2 q0)) ((hX.2.1 _ (xW_l hq0)).trans (xW_s hq0)) 12 (by decide) rfl q255 rfl dX2_punches_15 ⟨rfl, rfl⟩ (fun σ15 H locs e_σ15 G => ?_)
    have h := letB_e h e_σ15
    cases h
    exact Kr _ _ _ _ dX2_punches_18 G
theorem kX2_punches {l : Launch} {ad : Nat → Nat} {dc : Nat → ClassId} {D : va_G} {A : Nat → Prop} {q0 : Nat} (hi : ∀ i j, ad i = ad j → i = j) (hn : ks.Nodup) (hA : ∀ k, k ∈ ks → A (ad k)) {σ : St} {a1 : Int32}  {σ' : St} (hX : XOK ks sh) (hq0 : isW q0) (h : fX2_punches q0 a1 σ = some (σ')) : Met l yX2_punches (ws_ yX2_punches cX2_punches 2 none) RmX2_punches (gPc sh ks ad dc D σ [.ref (ad q0), .int a1]) (gQv sh ks ad dc D A σ') 0 0 A :=
  g_metV (by decide) rfl hi hn hA (Nat.le_of_ble_eq_true rfl) (fun p e s m below meth c Q C0 Kr ls hl G => wX2_punches_0 C0 a1 σ hX hq0 (σ') h Kr _ _ ls hl G)
-- X2_welds
abbrev RmX2_welds : Room := { frames := 2, cells := 0, slots := 0, locals := 43 }
theorem hdX2_welds : yX2_welds.cls = RX2 ∧ yX2_welds.cls ≠ "java/lang/invoke/MethodHandle" ∧ yX2_welds.cls ≠ "java/lang/invoke/VarHandle" ∧ (parseMethodDescriptor yX2_welds.desc).map (fun d => d.parameters.length) = some 1 := by decide +kernel
set_option maxHeartbeats 400000 in
theorem wX2_welds_18 (C0 : Cx ad dc D RX2 cX2_welds 2 p s m args meth c) (σ : St) (hX : XOK ks sh) (hq0 : isW q0) (o : St) (h : fX2_welds_18 q0 σ = some o) (Kr : KrV p l e RmX2_welds s m args below meth c cX2_welds Q (GW sh ks ad dc D A s o)) (H : Heap) (locs : List Loc) (ls : Array Slot) (hl : lv_has ls 2 [(0, .ref (ad q0))]) (G : GW sh ks ad dc D A s σ H locs) : W p l e RmX2_welds s m args below meth c H locs 0 0 Q (F0 m 18 ls []) := by
  have hx := C0.1
  have hb := C0.2.1
  unfold fX2_welds_18 at h
  refine lv_aload_n hx hb dX2_welds_18 rfl (lv_at hl 0 rfl) ?_
  refine lv_dup hx hb dX2_welds_19 rfl ?_
  refine g_getI C0 G in_X2 (ci := 2) rfl (hX.1 _ (xW_l hq0)) (fl := (xFlX2 q0)) ((hX.2.1 _ (xW_l hq0)).trans (xW_s hq0)) 12 (by decide) rfl q255 dX2_welds_20 ?_
  refine lv_iconst (v := 1) hx hb dX2_welds_23 (by decide +kernel) ?_
  refine lv_iadd hx hb dX2_welds_24 ?_
  refine g_putI C0 G in_X2 tyX2_ok nmX2 (ci := 2) rfl (hX.1 _ (xW_l hq0)) (fl := (xFlX2 q0)) ((hX.2.1 _ (xW_l hq0)).trans (xW_s hq0)) 12 (by decide) rfl q255 rfl dX2_welds_25 ⟨rfl, rfl⟩ (fun σ1 H locs e_σ1 G => ?_)
  have h := letB_e h e_σ1
  cases h
  exact Kr _ _ _ _ dX2_welds_28 G
set_option maxHeartbeats 400000 in
theorem wX2_welds_72 (C0 : Cx ad dc D RX2 cX2_welds 2 p s m args meth c) (a1 : Int32) (t1 : Int32) (t2 : Int32) (σ : St) (hX : XOK ks sh) (hq0 : isW q0) (o : St) (h : fX2_welds_72 q0 a1 t1 t2 σ = some o) (Kr : KrV p l e RmX2_welds s m args below meth c cX2_welds Q (GW sh ks ad dc D A s o)) (H : Heap) (locs : List Loc) (ls : Array Slot) (hl : lv_has ls 2 [(0, .ref (ad q0)), (1, .int a1)]) (G : GW sh ks ad dc D A s σ H locs) : W p l e RmX2_welds s m args below meth c H locs 0 0 Q (F0 m 72 ls [.int t2, .int t1, .ref (ad q0)]) := by
  have hx := C0.1
  have hb := C0.2.1
  unfold fX2_welds_72 at h
  obtain ⟨r1, σ2, h_r1, h⟩ := bn2_e h
  refine g_callVi (rest := []) C0 G hl (ci := 2) rfl (hX.1 _ (xW_l hq0)) (fl := (xFlX2 q0)) ((hX.2.1 _ (xW_l hq0)).trans (xW_s hq0)) (kX2_uses (l := l) C0.2.2.2.2.2.2.1 G.2.2.1 G.2.2.2 hX hq0 h_r1) (cwV 2 C0.2.2.2.2.1 (lw_V q1274 q1276 qs32 q110 q1277) rfl rfl rfl hdX2_uses ⟨Nat.le_of_ble_eq_true rfl, Nat.le_of_ble_eq_true rfl⟩) rfl (Nat.le_of_ble_eq_true rfl) dX2_welds_72 ⟨Nat.zero_le _, Nat.zero_le _⟩ (fun H locs G => ?_)
  refine lv_if_ne (tgt := 79) hx hb dX2_welds_75 (by decide) (fun c3 => ?_) (fun c3 => ?_)
  · have h := ite_f h c3
    refine lv_aload_n hx hb dX2_welds_79 rfl (lv_at hl 0 rfl) ?_
    refine lv_dup hx hb dX2_welds_80 rfl ?_
    refine g_getI C0 G in_X2 (ci := 2) rfl (hX.1 _ (xW_l hq0)) (fl := (xFlX2 q0)) ((hX.2.1 _ (xW_l hq0)).trans (xW_s hq0)) 17 (by decide) rfl q265 dX2_welds_81 ?_
    refine lv_iconst (v := 1) hx hb dX2_welds_84 (by decide +kernel) ?_
    refine lv_iload_n hx hb dX2_welds_85 rfl (lv_at hl 1 rfl) ?_
    refine lv_ishl hx hb dX2_welds_86 ?_
    refine lv_ior hx hb dX2_welds_87 ?_
    refine g_putI C0 G in_X2 tyX2_ok nmX2 (ci := 2) rfl (hX.1 _ (xW_l hq0)) (fl := (xFlX2 q0)) ((hX.2.1 _ (xW_l hq0)).trans (xW_s hq0)) 17 (by decide) rfl q265 rfl dX2_welds_88 ⟨rfl, rfl⟩ (fun σ4 H locs e_σ4 G => ?_)
    have h := letB_e h e_σ4
    refine lv_aload_n hx hb dX2_welds_91 rfl (lv_at hl 0 rfl) ?_
    refine g_getC C0 G in_X2 (ci := 2) rfl (hX.1 _ (xW_l hq0)) (fl := (xFlX2 q0)) ((hX.2.1 _ (xW_l hq0)).trans (xW_s hq0)) 2 (by decide) rfl q237 dX2_welds_92 ?_
    refine lv_iload_n hx hb dX2_welds_95 rfl (lv_at hl 1 rfl) ?_
    refine lv_bipush (v := 100) hx hb dX2_welds_96 (by decide +kernel) ?_
    refine lv_bipush (v := 30) hx hb dX2_welds_98 (by decide +kernel) ?_
    refine lv_bipush (v := 10) hx hb dX2_welds_100 (by decide +kernel) ?_
    refine lv_aload_n hx hb dX2_welds_102 rfl (lv_at hl 0 rfl) ?_
    refine g_getI C0 G in_X2 (ci := 2) rfl (hX.1 _ (xW_l hq0)) (fl := (xFlX2 q0)) ((hX.2.1 _ (xW_l hq0)).trans (xW_s hq0)) 8 (by decide) rfl q246 dX2_welds_103 ?_
    refine lv_imul hx hb dX2_welds_106 ?_
    refine lv_iadd hx hb dX2_welds_107 ?_
    refine lv_aload_n hx hb dX2_welds_108 rfl (lv_at hl 0 rfl) ?_
    refine g_getI C0 G in_X2 (ci := 2) rfl (hX.1 _ (xW_l hq0)) (fl := (xFlX2 q0)) ((hX.2.1 _ (xW_l hq0)).trans (xW_s hq0)) 6 (by decide) rfl q243 dX2_welds_109 ?_
    refine lv_iadd hx hb dX2_welds_112 ?_
    refine va_mmin hx hb (C0.2.2.1.trans hl.1.symm) C0.2.2.2.1 (C0.2.2.2.2.1 _ q1301) (C0.2.2.2.2.1 _ q575) (C0.2.2.2.2.1 _ q145) (C0.2.2.2.2.1 _ q576) (Nat.le_of_ble_eq_true rfl) (Nat.le_of_ble_eq_true rfl) (Nat.zero_le _) (Nat.zero_le _) dX2_welds_113 ?_
    obtain ⟨b_5, h⟩ := ckB_e h
    refine g_iast C0 G (n := 5) (hX.1 _ (xW_l3 hq0)) ((hX.2.1 _ (xW_l3 hq0)).trans (xW_s3 hq0)) b_5 dX2_welds_116 (fun σ6 H locs e_σ6 G => ?_)
    have h := letB_e h e_σ6
    cases h
    exact Kr _ _ _ _ dX2_welds_117 G
  · have h := ite_t h c3
    cases h
    exact Kr _ _ _ _ dX2_welds_78 G
set_option maxHeartbeats 400000 in
theorem wX2_welds_71 (C0 : Cx ad dc D RX2 cX2_welds 2 p s m args meth c) (a1 : Int32) (t1 : Int32) (σ : St) (hX : XOK ks sh) (hq0 : isW q0) (o : St) (h : fX2_welds_71 q0 a1 t1 σ = some o) (Kr : KrV p l e RmX2_welds s m args below meth c cX2_welds Q (GW sh ks ad dc D A s o)) (H : Heap) (locs : List Loc) (ls : Array Slot) (hl : lv_has ls 2 [(0, .ref (ad q0)), (1, .int a1)]) (G : GW sh ks ad dc D A s σ H locs) : W p l e RmX2_welds s m args below meth c H locs 0 0 Q (F0 m 71 ls [.int t1, .ref (ad q0)]) := by
  have hx := C0.1
  have hb := C0.2.1
  unfold fX2_welds_71 at h
  refine lv_iconst (v := 0) hx hb dX2_welds_71 (by decide +kernel) ?_
  exact wX2_welds_72 C0 a1 t1 0 (σ) hX hq0 _ h Kr _ _ _ hl G
set_option maxHeartbeats 400000 in
theorem wX2_welds_67 (C0 : Cx ad dc D RX2 cX2_welds 2 p s m args meth c) (a1 : Int32) (t1 : Int32) (σ : St) (hX : XOK ks sh) (hq0 : isW q0) (o : St) (h : fX2_welds_67 q0 a1 t1 σ = some o) (Kr : KrV p l e RmX2_welds s m args below meth c cX2_welds Q (GW sh ks ad dc D A s o)) (H : Heap) (locs : List Loc) (ls : Array Slot) (hl : lv_has ls 2 [(0, .ref (ad q0)), (1, .int a1)]) (G : GW sh ks ad dc D A s σ H locs) : W p l e RmX2_welds s m args below meth c H locs 0 0 Q (F0 m 67 ls [.int t1, .ref (ad q0)]) := by
  have hx := C0.1
  have hb := C0.2.1
  unfold fX2_welds_67 at h
  refine lv_iconst (v := 1) hx hb dX2_welds_67 (by decide +kernel) ?_
  refine lv_goto (tgt := 72) hx hb dX2_welds_68 (by decide) ?_
  exact wX2_welds_72 C0 a1 t1 1 (σ) hX hq0 _ h Kr _ _ _ hl G
set_option maxHeartbeats 400000 in
theorem wX2_welds_0 (C0 : Cx ad dc D RX2 cX2_welds 2 p s m args meth c) (a1 : Int32) (σ : St) (hX : XOK ks sh) (hq0 : isW q0) (o : St) (h : fX2_welds q0 a1 σ = some o) (Kr : KrV p l e RmX2_welds s m args below meth c cX2_welds Q (GW sh ks ad dc D A s o)) (H : Heap) (locs : List Loc) (ls : Array Slot) (hl : lv_has ls 2 [(0, .ref (ad q0)), (1, .int a1)]) (G : GW sh ks ad dc D A s σ H locs) : W p l e RmX2_welds s m args below meth c H locs 0 0 Q (F0 m 0 ls []) := by
  have hx := C0.1
  have hb := C0.2.1
  unfold fX2_welds at h
  refine lv_aload_n hx hb dX2_welds_0 rfl (lv_at hl 0 rfl) ?_
  refine lv_iload_n hx hb dX2_welds_1 rfl (lv_at hl 1 rfl) ?_
  obtain ⟨r1, h_r1, h⟩ := bn1_e h
  refine g_callVi (rest := []) C0 G hl (ci := 2) rfl (hX.1 _ (xW_l hq0)) (fl := (xFlX2 q0)) ((hX.2.1 _ (xW_l hq0)).trans (xW_s hq0)) (kX2_isCell (l := l) C0.2.2.2.2.2.2.1 G.2.2.1 G.2.2.2 hX hq0 h_r1) (cwV 1 C0.2.2.2.2.1 (lw_V q1222 q1223 q1224 q110 q1225) rfl rfl rfl hdX2_isCell ⟨Nat.le_of_ble_eq_true rfl, Nat.le_of_ble_eq_true rfl⟩) rfl (Nat.le_of_ble_eq_true rfl) dX2_welds_2 ⟨Nat.zero_le _, Nat.zero_le _⟩ (fun H locs G => ?_)
  refine lv_if_eq (tgt := 18) hx hb dX2_welds_5 (by decide) (fun c2 => ?_) (fun c2 => ?_)
  · have h := ite_t h c2
    exact wX2_welds_18 C0 (σ) hX hq0 _ h Kr _ _ _ (lv_sub hl [0] rfl) G
  · have h := ite_f h c2
    refine lv_aload_n hx hb dX2_welds_8 rfl (lv_at hl 0 rfl) ?_
    refine lv_iload_n hx hb dX2_welds_9 rfl (lv_at hl 1 rfl) ?_
    refine lv_iconst (v := 1) hx hb dX2_welds_10 (by decide +kernel) ?_
    refine lv_iadd hx hb dX2_welds_11 ?_
    obtain ⟨r3, h_r3, h⟩ := bn1_e h
    refine g_callVi (rest := []) C0 G hl (ci := 2) rfl (hX.1 _ (xW_l hq0)) (fl := (xFlX2 q0)) ((hX.2.1 _ (xW_l hq0)).trans (xW_s hq0)) (kX2_isCell (l := l) C0.2.2.2.2.2.2.1 G.2.2.1 G.2.2.2 hX hq0 h_r3) (cwV 1 C0.2.2.2.2.1 (lw_V q1222 q1223 q1224 q110 q1225) rfl rfl rfl hdX2_isCell ⟨Nat.le_of_ble_eq_true rfl, Nat.le_of_ble_eq_true rfl⟩) rfl (Nat.le_of_ble_eq_true rfl) dX2_welds_12 ⟨Nat.zero_le _, Nat.zero_le _⟩ (fun H locs G => ?_)
    refine lv_if_ne (tgt := 29) hx hb dX2_welds_15 (by decide) (fun c4 => ?_) (fun c4 => ?_)
    · have h := ite_f h c4
      refine lv_aload_n hx hb dX2_welds_29 rfl (lv_at hl 0 rfl) ?_
      refine lv_iload_n hx hb dX2_welds_30 rfl (lv_at hl 1 rfl) ?_
      refine lv_aload_n hx hb dX2_welds_31 rfl (lv_at hl 0 rfl) ?_
      refine lv_iload_n hx hb dX2_welds_32 rfl (lv_at hl 1 rfl) ?_
      obtain ⟨r5, h_r5, h⟩ := bn1_e h
      refine g_callVi (rest := [.int a1, .ref (ad q0)]) C0 G hl (ci := 2) rfl (hX.1 _ (xW_l hq0)) (fl := (xFlX2 q0)) ((hX.2.1 _ (xW_l hq0)).trans (xW_s hq0)) (kX2_isHot (l := l) C0.2.2.2.2.2.2.1 G.2.2.1 G.2.2.2 hX hq0 h_r5) (cwV 1 C0.2.2.2.2.1 (lw_V q1273 q1228 q1229 q110 q1230) rfl rfl rfl hdX2_isHot ⟨Nat.le_of_ble_eq_true rfl, Nat.le_of_ble_eq_true rfl⟩) rfl (Nat.le_of_ble_eq_true rfl) dX2_welds_33 ⟨Nat.zero_le _, Nat.zero_le _⟩ (fun H locs G => ?_)
      refine lv_if_eq (tgt := 71) hx hb dX2_welds_36 (by decide) (fun c6 => ?_) (fun c6 => ?_)
      · have h := ite_t h c6
        exact wX2_welds_71 C0 a1 a1 (σ) hX hq0 _ h Kr _ _ _ hl G
      · have h := ite_f h c6
        refine lv_aload_n hx hb dX2_welds_39 rfl (lv_at hl 0 rfl) ?_
        refine lv_iload_n hx hb dX2_welds_40 rfl (lv_at hl 1 rfl) ?_
        refine lv_iconst (v := 1) hx hb dX2_welds_41 (by decide +kernel) ?_
        refine lv_iadd hx hb dX2_welds_42 ?_
        obtain ⟨r7, h_r7, h⟩ := bn1_e h
        refine g_callVi (rest := [.int a1, .ref (ad q0)]) C0 G hl (ci := 2) rfl (hX.1 _ (xW_l hq0)) (fl := (xFlX2 q0)) ((hX.2.1 _ (xW_l hq0)).trans (xW_s hq0)) (kX2_isHot (l := l) C0.2.2.2.2.2.2.1 G.2.2.1 G.2.2.2 hX hq0 h_r7) (cwV 1 C0.2.2.2.2.1 (lw_V q1273 q1228 q1229 q110 q1230) rfl rfl rfl hdX2_isHot ⟨Nat.le_of_ble_eq_true rfl, Nat.le_of_ble_eq_true rfl⟩) rfl (Nat.le_of_ble_eq_true rfl) dX2_welds_43 ⟨Nat.zero_le _, Nat.zero_le _⟩ (fun H locs G => ?_)
        refine lv_if_eq (tgt := 71) hx hb dX2_welds_46 (by decide) (fun c8 => ?_) (fun c8 => ?_)
        · have h := ite_t h c8
          exact wX2_welds_71 C0 a1 a1 (σ) hX hq0 _ h Kr _ _ _ hl G
        · have h := ite_f h c8
          refine lv_aload_n hx hb dX2_welds_49 rfl (lv_at hl 0 rfl) ?_
          refine g_getI C0 G in_X2 (ci := 2) rfl (hX.1 _ (xW_l hq0)) (fl := (xFlX2 q0)) ((hX.2.1 _ (xW_l hq0)).trans (xW_s hq0)) 20 (by decide) rfl q271 dX2_welds_50 ?_
          refine lv_iload_n hx hb dX2_welds_53 rfl (lv_at hl 1 rfl) ?_
          refine lv_icmp_eq (tgt := 67) hx hb dX2_welds_54 (by decide) (fun c9 => ?_) (fun c9 => ?_)
          · have h := ite_t h c9
            exact wX2_welds_67 C0 a1 a1 (σ) hX hq0 _ h Kr _ _ _ hl G
          · have h := ite_f h c9
            refine lv_aload_n hx hb dX2_welds_57 rfl (lv_at hl 0 rfl) ?_
            refine g_getI C0 G in_X2 (ci := 2) rfl (hX.1 _ (xW_l hq0)) (fl := (xFlX2 q0)) ((hX.2.1 _ (xW_l hq0)).trans (xW_s hq0)) 20 (by decide) rfl q271 dX2_welds_58 ?_
            refine lv_iload_n hx hb dX2_welds_61 rfl (lv_at hl 1 rfl) ?_
            refine lv_iconst (v := 1) hx hb dX2_welds_62 (by decide +kernel) ?_
            refine lv_iadd hx hb dX2_welds_63 ?_
            refine lv_icmp_ne (tgt := 71) hx hb dX2_welds_64 (by decide) (fun c10 => ?_) (fun c10 => ?_)
            · have h := ite_f h c10
              exact wX2_welds_71 C0 a1 a1 (σ) hX hq0 _ h Kr _ _ _ hl G
            · have h := ite_t h c10
              exact wX2_welds_67 C0 a1 a1 (σ) hX hq0 _ h Kr _ _ _ hl G
    · have h := ite_t h c4
      exact wX2_welds_18 C0 (σ) hX hq0 _ h Kr _ _ _ (lv_sub hl [0] rfl) G
theorem kX2_welds {l : Launch} {ad : Nat → Nat} {dc : Nat → ClassId} {D : va_G} {A : Nat → Prop} {q0 : Nat} (hi : ∀ i j, ad i = ad j → i = j) (hn : ks.Nodup) (hA : ∀ k, k ∈ ks → A (ad k)) {σ : St} {a1 : Int32}  {σ' : St} (hX : XOK ks sh) (hq0 : isW q0) (h : fX2_welds q0 a1 σ = some (σ')) : Met l yX2_welds (ws_ yX2_welds cX2_welds 2 none) RmX2_welds (gPc sh ks ad dc D σ [.ref (ad q0), .int a1]) (gQv sh ks ad dc D A σ') 0 0 A :=
  g_metV (by decide) rfl hi hn hA (Nat.le_of_ble_eq_true rfl) (fun p e s m below meth c Q C0 Kr ls hl G => wX2_welds_0 C0 a1 σ hX hq0 (σ') h Kr _ _ ls hl G)
-- X2_row
abbrev RmX2_row : Room := { frames := 0, cells := 0, slots := 0, locals := 0 }
theorem hdX2_row : yX2_row.cls = RX2 ∧ yX2_row.cls ≠ "java/lang/invoke/MethodHandle" ∧ yX2_row.cls ≠ "java/lang/invoke/VarHandle" ∧ (parseMethodDescriptor yX2_row.desc).map (fun d => d.parameters.length) = some 0 := by decide +kernel
set_option maxHeartbeats 400000 in
theorem wbX2_row_4 (C0 : Cx ad dc D RX2 cX2_row 3 p s m args meth c) (a1 : Int32) (a2 : Int32) (σ : St) (hX : XOK ks sh) (hq0 : isW q0) (o : (Int32) ⊕ (Int32 × Int32)) (h : bX2_row_4 q0 a1 a2 σ = some o) (Kb : ∀ (b1 : Int32) (b2 : Int32), o = .inr (b1, b2) → ∀ (H : Heap) (locs : List Loc) (ls : Array Slot), lv_has ls 3 [(0, .ref (ad q0)), (1, .int b1), (2, .int b2)] → GW sh ks ad dc D A s σ H locs → W p l e RmX2_row s m args below meth c H locs 0 0 Q (F0 m 4 ls [])) (Ke0 : ∀ (b1 : Int32), o = .inl b1 → ∀ (H : Heap) (locs : List Loc) (ls : Array Slot), lv_has ls 3 [(1, .int b1)] → GW sh ks ad dc D A s σ H locs → W p l e RmX2_row s m args below meth c H locs 0 0 Q (F0 m 32 ls [])) (H : Heap) (locs : List Loc) (ls : Array Slot) (hl : lv_has ls 3 [(0, .ref (ad q0)), (1, .int a1), (2, .int a2)]) (G : GW sh ks ad dc D A s σ H locs) : W p l e RmX2_row s m args below meth c H locs 0 0 Q (F0 m 4 ls []) := by
  have hx := C0.1
  have hb := C0.2.1
  unfold bX2_row_4 at h
  refine lv_iload_n hx hb dX2_row_4 rfl (lv_at hl 2 rfl) ?_
  refine lv_aload_n hx hb dX2_row_5 rfl (lv_at hl 0 rfl) ?_
  refine g_getI C0 G in_X2 (ci := 2) rfl (hX.1 _ (xW_l hq0)) (fl := (xFlX2 q0)) ((hX.2.1 _ (xW_l hq0)).trans (xW_s hq0)) 3 (by decide) rfl q239 dX2_row_6 ?_
  refine lv_icmp_ge (tgt := 32) hx hb dX2_row_9 (by decide) (fun c1 => ?_) (fun c1 => ?_)
  · have h := ite_t h c1
    cases h
    exact Ke0 a1 rfl _ _ _ (lv_sub hl [1] rfl) G
  · have h := ite_f h c1
    refine lv_bipush (v := 9) hx hb dX2_row_12 (by decide +kernel) ?_
    refine lv_iload_n hx hb dX2_row_14 rfl (lv_at hl 1 rfl) ?_
    refine lv_imul hx hb dX2_row_15 ?_
    refine lv_aload_n hx hb dX2_row_16 rfl (lv_at hl 0 rfl) ?_
    refine g_getC C0 G in_X2 (ci := 2) rfl (hX.1 _ (xW_l hq0)) (fl := (xFlX2 q0)) ((hX.2.1 _ (xW_l hq0)).trans (xW_s hq0)) 0 (by decide) rfl q234 dX2_row_17 ?_
    refine lv_iload_n hx hb dX2_row_20 rfl (lv_at hl 2 rfl) ?_
    obtain ⟨b_2, h⟩ := ckB_e h
    refine g_iald C0 G (n := 5) (hX.1 _ (xW_l1 hq0)) ((hX.2.1 _ (xW_l1 hq0)).trans (xW_s1 hq0)) b_2 dX2_row_21 ?_
    refine lv_iadd hx hb dX2_row_22 ?_
    refine lv_iconst (v := 1) hx hb dX2_row_23 (by decide +kernel) ?_
    refine lv_isub hx hb dX2_row_24 ?_
    refine lv_topi (fun x3 e_x3 => ?_)
    have h := letB_e h e_x3
    refine lv_istore_n (lv' := [(1, .int x3), (0, .ref (ad q0)), (2, .int a2)]) hx hb dX2_row_25 rfl hl (by decide) rfl (fun ls hl => ?_)
    obtain ⟨x4, e_x4⟩ : ∃ z : Int32, z = a2 + 1 := ⟨_, rfl⟩
    have h := letB_e h e_x4
    refine lv_iinc (v := x4) (lv' := [(2, .int x4), (1, .int x3), (0, .ref (ad q0))]) hx hb dX2_row_26 hl (k := 2) rfl ((congrArg (fun z => a2 + z) (show Int32.ofInt 1 = 1 by decide)).trans e_x4.symm) (by decide) rfl (fun ls hl => ?_)
    refine lv_goto (tgt := 4) hx hb dX2_row_29 (by decide) ?_
    cases h
    exact Kb x3 x4 rfl _ _ _ (lv_sub hl [2, 1, 0] rfl) G
set_option maxHeartbeats 400000 in
theorem lX2_row_4 (C0 : Cx ad dc D RX2 cX2_row 3 p s m args meth c)  (σ : St) (hX : XOK ks sh) (hq0 : isW q0) : ∀ (n : Nat) (a1 : Int32) (a2 : Int32) (ex : Int32) (h : iter (fun v : Int32 × Int32 => bX2_row_4 q0 v.1 v.2 σ) n (a1, a2) = some ex) (Ke0 : ∀ (b1 : Int32), ex = b1 → ∀ (H : Heap) (locs : List Loc) (ls : Array Slot), lv_has ls 3 [(1, .int b1)] → GW sh ks ad dc D A s σ H locs → W p l e RmX2_row s m args below meth c H locs 0 0 Q (F0 m 32 ls [])) (H : Heap) (locs : List Loc) (ls : Array Slot) (hl : lv_has ls 3 [(0, .ref (ad q0)), (1, .int a1), (2, .int a2)]) (G : GW sh ks ad dc D A s σ H locs), W p l e RmX2_row s m args below meth c H locs 0 0 Q (F0 m 4 ls []) := by
  intro n
  induction n with
  | zero =>
    intro a1 a2 ex h
    cases h
  | succ n ih =>
    intro a1 a2 ex h Ke0 H locs ls hl G
    obtain ⟨r, hb1, hr⟩ := iter_e h
    refine wbX2_row_4 C0 a1 a2 σ hX hq0 r hb1 ?_ ?_ H locs ls hl G
    · intro b1 b2 hv H locs ls hl G
      subst hv
      rcases hr with hr | ⟨a', hr, h2⟩
      · cases hr
      · rw [← Sum.inr.inj hr] at h2
        exact ih b1 b2 ex h2 Ke0 H locs ls hl G
    · intro b1 hv H locs ls hl G
      subst hv
      rcases hr with hr | ⟨a', hr, h2⟩
      · exact Ke0 b1 (Sum.inl.inj hr).symm H locs ls hl G
      · cases hr
set_option maxHeartbeats 400000 in
theorem wX2_row_4 (C0 : Cx ad dc D RX2 cX2_row 3 p s m args meth c) (a1 : Int32) (a2 : Int32) (σ : St) (hX : XOK ks sh) (hq0 : isW q0) (o : Int32) (h : fX2_row_4 q0 a1 a2 σ = some o) (Kr : KrI p l e RmX2_row s m args below meth c cX2_row Q (GW sh ks ad dc D A s (σ)) o) (H : Heap) (locs : List Loc) (ls : Array Slot) (hl : lv_has ls 3 [(0, .ref (ad q0)), (1, .int a1), (2, .int a2)]) (G : GW sh ks ad dc D A s σ H locs) : W p l e RmX2_row s m args below meth c H locs 0 0 Q (F0 m 4 ls []) := by
  have hx := C0.1
  have hb := C0.2.1
  unfold fX2_row_4 at h
  obtain ⟨ex, h1, h⟩ := bn1_e h
  refine lX2_row_4 C0  σ hX hq0 FU a1 a2 ex h1 ?_ H locs ls hl G
  · intro b1 hv H locs ls hl G
    rw [hv] at h
    have h : (some b1) = some o := h
    refine lv_iload_n hx hb dX2_row_32 rfl (lv_at hl 0 rfl) ?_
    cases h
    exact Kr _ _ _ _ dX2_row_33 G
set_option maxHeartbeats 400000 in
theorem wX2_row_0 (C0 : Cx ad dc D RX2 cX2_row 3 p s m args meth c) (σ : St) (hX : XOK ks sh) (hq0 : isW q0) (o : Int32) (h : fX2_row q0 σ = some o) (Kr : KrI p l e RmX2_row s m args below meth c cX2_row Q (GW sh ks ad dc D A s (σ)) o) (H : Heap) (locs : List Loc) (ls : Array Slot) (hl : lv_has ls 3 [(0, .ref (ad q0))]) (G : GW sh ks ad dc D A s σ H locs) : W p l e RmX2_row s m args below meth c H locs 0 0 Q (F0 m 0 ls []) := by
  have hx := C0.1
  have hb := C0.2.1
  unfold fX2_row at h
  refine lv_iconst (v := 0) hx hb dX2_row_0 (by decide +kernel) ?_
  refine lv_istore_n (lv' := [(1, .int 0), (0, .ref (ad q0))]) hx hb dX2_row_1 rfl hl (by decide) rfl (fun ls hl => ?_)
  refine lv_iconst (v := 0) hx hb dX2_row_2 (by decide +kernel) ?_
  refine lv_istore_n (lv' := [(2, .int 0), (1, .int 0), (0, .ref (ad q0))]) hx hb dX2_row_3 rfl hl (by decide) rfl (fun ls hl => ?_)
  exact wX2_row_4 C0 0 0 (σ) hX hq0 _ h Kr _ _ _ (lv_sub hl [2, 1, 0] rfl) G
theorem kX2_row {l : Launch} {ad : Nat → Nat} {dc : Nat → ClassId} {D : va_G} {A : Nat → Prop} {q0 : Nat} (hi : ∀ i j, ad i = ad j → i = j) (hn : ks.Nodup) (hA : ∀ k, k ∈ ks → A (ad k)) {σ : St}  {r : Int32} (hX : XOK ks sh) (hq0 : isW q0) (h : fX2_row q0 σ = some r) : Met l yX2_row (ws_ yX2_row cX2_row 3 (some .int)) RmX2_row (gPc sh ks ad dc D σ [.ref (ad q0)]) (gQi sh ks ad dc D A σ r) 0 0 A :=
  g_metI (by decide) rfl hi hn hA (Nat.le_of_ble_eq_true rfl) (fun p e s m below meth c Q C0 Kr ls hl G => wX2_row_0 C0  σ hX hq0 r h Kr _ _ ls hl G)
-- X2_begins_c3_c5
abbrev RmX2_begins_c3_c5 : Room := { frames := 0, cells := 0, slots := 0, locals := 0 }
theorem hdX2_begins_c3_c5 : yX2_begins.cls = RX2 ∧ yX2_begins.cls ≠ "java/lang/invoke/MethodHandle" ∧ yX2_begins.cls ≠ "java/lang/invoke/VarHandle" ∧ (parseMethodDescriptor yX2_begins.desc).map (fun d => d.parameters.length) = some 4 := by decide +kernel
set_option maxHeartbeats 400000 in
theorem wX2_begins_c3_c5_55 (C0 : Cx ad dc D RX2 cX2_begins 6 p s m args meth c) (a2 : Int32) (a5 : Int32) (t1 : Int32) (t2 : Int32) (σ : St) (hX : XOK ks sh) (hq0 : isW q0) (o : (St) ⊕ (Int32 × St)) (h : fX2_begins_c3_c5_55 q0 a2 a5 t1 t2 σ = some o) (Kb : ∀ (b5 : Int32) (σ' : St), o = .inr (b5, σ') → ∀ (H : Heap) (locs : List Loc) (ls : Array Slot), lv_has ls 6 [(0, .ref (ad q0)), (1, .ref (ad 3)), (2, .int a2), (5, .int b5)] → GW sh ks ad dc D A s σ' H locs → W p l e RmX2_begins_c3_c5 s m args below meth c H locs 0 0 Q (F0 m 29 ls [])) (Ke0 : ∀  (σ' : St), o = .inl (σ') → ∀ (H : Heap) (locs : List Loc) (ls : Array Slot), lv_has ls 6 [(0, .ref (ad q0))] → GW sh ks ad dc D A s σ' H locs → W p l e RmX2_begins_c3_c5 s m args below meth c H locs 0 0 Q (F0 m 78 ls [])) (H : Heap) (locs : List Loc) (ls : Array Slot) (hl : lv_has ls 6 [(0, .ref (ad q0)), (1, .ref (ad 3)), (2, .int a2), (5, .int a5)]) (G : GW sh ks ad dc D A s σ H locs) : W p l e RmX2_begins_c3_c5 s m args below meth c H locs 0 0 Q (F0 m 55 ls [.int t2, .int t1, .ref (ad (q0 + 1))]) := by
  have hx := C0.1
  have hb := C0.2.1
  unfold fX2_begins_c3_c5_55 at h
  obtain ⟨b_1, h⟩ := ckB_e h
  refine g_iast C0 G (n := 5) (hX.1 _ (xW_l1 hq0)) ((hX.2.1 _ (xW_l1 hq0)).trans (xW_s1 hq0)) b_1 dX2_begins_55 (fun σ2 H locs e_σ2 G => ?_)
  have h := letB_e h e_σ2
  refine lv_aload_n hx hb dX2_begins_56 rfl (lv_at hl 0 rfl) ?_
  refine g_getC C0 G in_X2 (ci := 2) rfl (hX.1 _ (xW_l hq0)) (fl := (xFlX2 q0)) ((hX.2.1 _ (xW_l hq0)).trans (xW_s hq0)) 1 (by decide) rfl q236 dX2_begins_57 ?_
  refine lv_iload hx hb dX2_begins_60 (lv_at hl 3 rfl) ?_
  refine lv_iconst (v := 0) hx hb dX2_begins_62 (by decide +kernel) ?_
  obtain ⟨b_3, h⟩ := ckB_e h
  refine g_iast C0 G (n := 5) (hX.1 _ (xW_l2 hq0)) ((hX.2.1 _ (xW_l2 hq0)).trans (xW_s2 hq0)) b_3 dX2_begins_63 (fun σ4 H locs e_σ4 G => ?_)
  have h := letB_e h e_σ4
  refine lv_aload_n hx hb dX2_begins_64 rfl (lv_at hl 0 rfl) ?_
  refine g_getC C0 G in_X2 (ci := 2) rfl (hX.1 _ (xW_l hq0)) (fl := (xFlX2 q0)) ((hX.2.1 _ (xW_l hq0)).trans (xW_s hq0)) 2 (by decide) rfl q237 dX2_begins_65 ?_
  refine lv_iload hx hb dX2_begins_68 (lv_at hl 3 rfl) ?_
  refine lv_iconst (v := 0) hx hb dX2_begins_70 (by decide +kernel) ?_
  obtain ⟨b_5, h⟩ := ckB_e h
  refine g_iast C0 G (n := 5) (hX.1 _ (xW_l3 hq0)) ((hX.2.1 _ (xW_l3 hq0)).trans (xW_s3 hq0)) b_5 dX2_begins_71 (fun σ6 H locs e_σ6 G => ?_)
  have h := letB_e h e_σ6
  obtain ⟨x7, e_x7⟩ : ∃ z : Int32, z = a5 + 1 := ⟨_, rfl⟩
  have h := letB_e h e_x7
  refine lv_iinc (v := x7) (lv' := [(5, .int x7), (0, .ref (ad q0)), (1, .ref (ad 3)), (2, .int a2)]) hx hb dX2_begins_72 hl (k := 3) rfl ((congrArg (fun z => a5 + z) (show Int32.ofInt 1 = 1 by decide)).trans e_x7.symm) (by decide) rfl (fun ls hl => ?_)
  refine lv_goto (tgt := 29) hx hb dX2_begins_75 (by decide) ?_
  cases h
  exact Kb x7 (σ6) rfl _ _ _ (lv_sub hl [1, 2, 3, 0] rfl) G
set_option maxHeartbeats 400000 in
theorem wX2_begins_c3_c5_78 (C0 : Cx ad dc D RX2 cX2_begins 6 p s m args meth c) (σ : St) (hX : XOK ks sh) (hq0 : isW q0) (o : St) (h : fX2_begins_c3_c5_78 q0 σ = some o) (Kr : KrV p l e RmX2_begins_c3_c5 s m args below meth c cX2_begins Q (GW sh ks ad dc D A s o)) (H : Heap) (locs : List Loc) (ls : Array Slot) (hl : lv_has ls 6 [(0, .ref (ad q0))]) (G : GW sh ks ad dc D A s σ H locs) : W p l e RmX2_begins_c3_c5 s m args below meth c H locs 0 0 Q (F0 m 78 ls []) := by
  have hx := C0.1
  have hb := C0.2.1
  unfold fX2_begins_c3_c5_78 at h
  refine lv_aload_n hx hb dX2_begins_78 rfl (lv_at hl 0 rfl) ?_
  refine lv_iconst (v := 0) hx hb dX2_begins_79 (by decide +kernel) ?_
  refine g_putI C0 G in_X2 tyX2_ok nmX2 (ci := 2) rfl (hX.1 _ (xW_l hq0)) (fl := (xFlX2 q0)) ((hX.2.1 _ (xW_l hq0)).trans (xW_s hq0)) 7 (by decide) rfl q244 rfl dX2_begins_80 ⟨rfl, rfl⟩ (fun σ1 H locs e_σ1 G => ?_)
  have h := letB_e h e_σ1
  refine lv_aload_n hx hb dX2_begins_83 rfl (lv_at hl 0 rfl) ?_
  refine lv_iconst (v := 0) hx hb dX2_begins_84 (by decide +kernel) ?_
  refine g_putI C0 G in_X2 tyX2_ok nmX2 (ci := 2) rfl (hX.1 _ (xW_l hq0)) (fl := (xFlX2 q0)) ((hX.2.1 _ (xW_l hq0)).trans (xW_s hq0)) 8 (by decide) rfl q246 rfl dX2_begins_85 ⟨rfl, rfl⟩ (fun σ2 H locs e_σ2 G => ?_)
  have h := letB_e h e_σ2
  refine lv_aload_n hx hb dX2_begins_88 rfl (lv_at hl 0 rfl) ?_
  refine lv_iconst (v := 0) hx hb dX2_begins_89 (by decide +kernel) ?_
  refine g_putI C0 G in_X2 tyX2_ok nmX2 (ci := 2) rfl (hX.1 _ (xW_l hq0)) (fl := (xFlX2 q0)) ((hX.2.1 _ (xW_l hq0)).trans (xW_s hq0)) 9 (by decide) rfl q248 rfl dX2_begins_90 ⟨rfl, rfl⟩ (fun σ3 H locs e_σ3 G => ?_)
  have h := letB_e h e_σ3
  refine lv_aload_n hx hb dX2_begins_93 rfl (lv_at hl 0 rfl) ?_
  refine lv_iconst (v := 0) hx hb dX2_begins_94 (by decide +kernel) ?_
  refine g_putI C0 G in_X2 tyX2_ok nmX2 (ci := 2) rfl (hX.1 _ (xW_l hq0)) (fl := (xFlX2 q0)) ((hX.2.1 _ (xW_l hq0)).trans (xW_s hq0)) 10 (by decide) rfl q251 rfl dX2_begins_95 ⟨rfl, rfl⟩ (fun σ4 H locs e_σ4 G => ?_)
  have h := letB_e h e_σ4
  refine lv_aload_n hx hb dX2_begins_98 rfl (lv_at hl 0 rfl) ?_
  refine lv_iconst (v := 0) hx hb dX2_begins_99 (by decide +kernel) ?_
  refine g_putI C0 G in_X2 tyX2_ok nmX2 (ci := 2) rfl (hX.1 _ (xW_l hq0)) (fl := (xFlX2 q0)) ((hX.2.1 _ (xW_l hq0)).trans (xW_s hq0)) 11 (by decide) rfl q253 rfl dX2_begins_100 ⟨rfl, rfl⟩ (fun σ5 H locs e_σ5 G => ?_)
  have h := letB_e h e_σ5
  refine lv_aload_n hx hb dX2_begins_103 rfl (lv_at hl 0 rfl) ?_
  refine lv_iconst (v := 0) hx hb dX2_begins_104 (by decide +kernel) ?_
  refine g_putI C0 G in_X2 tyX2_ok nmX2 (ci := 2) rfl (hX.1 _ (xW_l hq0)) (fl := (xFlX2 q0)) ((hX.2.1 _ (xW_l hq0)).trans (xW_s hq0)) 12 (by decide) rfl q255 rfl dX2_begins_105 ⟨rfl, rfl⟩ (fun σ6 H locs e_σ6 G => ?_)
  have h := letB_e h e_σ6
  refine lv_aload_n hx hb dX2_begins_108 rfl (lv_at hl 0 rfl) ?_
  refine lv_iconst (v := 0) hx hb dX2_begins_109 (by decide +kernel) ?_
  refine g_putI C0 G in_X2 tyX2_ok nmX2 (ci := 2) rfl (hX.1 _ (xW_l hq0)) (fl := (xFlX2 q0)) ((hX.2.1 _ (xW_l hq0)).trans (xW_s hq0)) 13 (by decide) rfl q257 rfl dX2_begins_110 ⟨rfl, rfl⟩ (fun σ7 H locs e_σ7 G => ?_)
  have h := letB_e h e_σ7
  refine lv_aload_n hx hb dX2_begins_113 rfl (lv_at hl 0 rfl) ?_
  refine lv_iconst (v := 0) hx hb dX2_begins_114 (by decide +kernel) ?_
  refine g_putI C0 G in_X2 tyX2_ok nmX2 (ci := 2) rfl (hX.1 _ (xW_l hq0)) (fl := (xFlX2 q0)) ((hX.2.1 _ (xW_l hq0)).trans (xW_s hq0)) 14 (by decide) rfl q259 rfl dX2_begins_115 ⟨rfl, rfl⟩ (fun σ8 H locs e_σ8 G => ?_)
  have h := letB_e h e_σ8
  refine lv_aload_n hx hb dX2_begins_118 rfl (lv_at hl 0 rfl) ?_
  refine lv_iconst (v := 0) hx hb dX2_begins_119 (by decide +kernel) ?_
  refine g_putI C0 G in_X2 tyX2_ok nmX2 (ci := 2) rfl (hX.1 _ (xW_l hq0)) (fl := (xFlX2 q0)) ((hX.2.1 _ (xW_l hq0)).trans (xW_s hq0)) 15 (by decide) rfl q261 rfl dX2_begins_120 ⟨rfl, rfl⟩ (fun σ9 H locs e_σ9 G => ?_)
  have h := letB_e h e_σ9
  refine lv_aload_n hx hb dX2_begins_123 rfl (lv_at hl 0 rfl) ?_
  refine lv_iconst (v := 0) hx hb dX2_begins_124 (by decide +kernel) ?_
  refine g_putI C0 G in_X2 tyX2_ok nmX2 (ci := 2) rfl (hX.1 _ (xW_l hq0)) (fl := (xFlX2 q0)) ((hX.2.1 _ (xW_l hq0)).trans (xW_s hq0)) 16 (by decide) rfl q263 rfl dX2_begins_125 ⟨rfl, rfl⟩ (fun σ10 H locs e_σ10 G => ?_)
  have h := letB_e h e_σ10
  refine lv_aload_n hx hb dX2_begins_128 rfl (lv_at hl 0 rfl) ?_
  refine lv_iconst (v := 0) hx hb dX2_begins_129 (by decide +kernel) ?_
  refine g_putI C0 G in_X2 tyX2_ok nmX2 (ci := 2) rfl (hX.1 _ (xW_l hq0)) (fl := (xFlX2 q0)) ((hX.2.1 _ (xW_l hq0)).trans (xW_s hq0)) 17 (by decide) rfl q265 rfl dX2_begins_130 ⟨rfl, rfl⟩ (fun σ11 H locs e_σ11 G => ?_)
  have h := letB_e h e_σ11
  refine lv_aload_n hx hb dX2_begins_133 rfl (lv_at hl 0 rfl) ?_
  refine lv_iconst (v := 0) hx hb dX2_begins_134 (by decide +kernel) ?_
  refine g_putI C0 G in_X2 tyX2_ok nmX2 (ci := 2) rfl (hX.1 _ (xW_l hq0)) (fl := (xFlX2 q0)) ((hX.2.1 _ (xW_l hq0)).trans (xW_s hq0)) 18 (by decide) rfl q267 rfl dX2_begins_135 ⟨rfl, rfl⟩ (fun σ12 H locs e_σ12 G => ?_)
  have h := letB_e h e_σ12
  refine lv_aload_n hx hb dX2_begins_138 rfl (lv_at hl 0 rfl) ?_
  refine lv_iconst (v := 0) hx hb dX2_begins_139 (by decide +kernel) ?_
  refine g_putI C0 G in_X2 tyX2_ok nmX2 (ci := 2) rfl (hX.1 _ (xW_l hq0)) (fl := (xFlX2 q0)) ((hX.2.1 _ (xW_l hq0)).trans (xW_s hq0)) 19 (by decide) rfl q269 rfl dX2_begins_140 ⟨rfl, rfl⟩ (fun σ13 H locs e_σ13 G => ?_)
  have h := letB_e h e_σ13
  refine lv_aload_n hx hb dX2_begins_143 rfl (lv_at hl 0 rfl) ?_
  refine lv_iconst (v := (-1)) hx hb dX2_begins_144 (by decide +kernel) ?_
  refine g_putI C0 G in_X2 tyX2_ok nmX2 (ci := 2) rfl (hX.1 _ (xW_l hq0)) (fl := (xFlX2 q0)) ((hX.2.1 _ (xW_l hq0)).trans (xW_s hq0)) 20 (by decide) rfl q271 rfl dX2_begins_145 ⟨rfl, rfl⟩ (fun σ14 H locs e_σ14 G => ?_)
  have h := letB_e h e_σ14
  refine lv_aload_n hx hb dX2_begins_148 rfl (lv_at hl 0 rfl) ?_
  refine lv_iconst (v := (-1)) hx hb dX2_begins_149 (by decide +kernel) ?_
  refine g_putI C0 G in_X2 tyX2_ok nmX2 (ci := 2) rfl (hX.1 _ (xW_l hq0)) (fl := (xFlX2 q0)) ((hX.2.1 _ (xW_l hq0)).trans (xW_s hq0)) 21 (by decide) rfl q273 rfl dX2_begins_150 ⟨rfl, rfl⟩ (fun σ15 H locs e_σ15 G => ?_)
  have h := letB_e h e_σ15
  cases h
  exact Kr _ _ _ _ dX2_begins_153 G
set_option maxHeartbeats 400000 in
theorem wbX2_begins_c3_c5_29 (C0 : Cx ad dc D RX2 cX2_begins 6 p s m args meth c) (a2 : Int32) (a5 : Int32) (σ : St) (hX : XOK ks sh) (hq0 : isW q0) (o : (St) ⊕ (Int32 × St)) (h : bX2_begins_c3_c5_29 q0 a2 a5 σ = some o) (Kb : ∀ (b5 : Int32) (σ' : St), o = .inr (b5, σ') → ∀ (H : Heap) (locs : List Loc) (ls : Array Slot), lv_has ls 6 [(0, .ref (ad q0)), (1, .ref (ad 3)), (2, .int a2), (5, .int b5)] → GW sh ks ad dc D A s σ' H locs → W p l e RmX2_begins_c3_c5 s m args below meth c H locs 0 0 Q (F0 m 29 ls [])) (Ke0 : ∀  (σ' : St), o = .inl (σ') → ∀ (H : Heap) (locs : List Loc) (ls : Array Slot), lv_has ls 6 [(0, .ref (ad q0))] → GW sh ks ad dc D A s σ' H locs → W p l e RmX2_begins_c3_c5 s m args below meth c H locs 0 0 Q (F0 m 78 ls [])) (H : Heap) (locs : List Loc) (ls : Array Slot) (hl : lv_has ls 6 [(0, .ref (ad q0)), (1, .ref (ad 3)), (2, .int a2), (5, .int a5)]) (G : GW sh ks ad dc D A s σ H locs) : W p l e RmX2_begins_c3_c5 s m args below meth c H locs 0 0 Q (F0 m 29 ls []) := by
  have hx := C0.1
  have hb := C0.2.1
  unfold bX2_begins_c3_c5_29 at h
  refine lv_iload hx hb dX2_begins_29 (lv_at hl 3 rfl) ?_
  refine lv_iconst (v := 5) hx hb dX2_begins_31 (by decide +kernel) ?_
  refine lv_icmp_ge (tgt := 78) hx hb dX2_begins_32 (by decide) (fun c1 => ?_) (fun c1 => ?_)
  · have h := ite_t h c1
    cases h
    exact Ke0 (σ) rfl _ _ _ (lv_sub hl [0] rfl) G
  · have h := ite_f h c1
    refine lv_aload_n hx hb dX2_begins_35 rfl (lv_at hl 0 rfl) ?_
    refine g_getC C0 G in_X2 (ci := 2) rfl (hX.1 _ (xW_l hq0)) (fl := (xFlX2 q0)) ((hX.2.1 _ (xW_l hq0)).trans (xW_s hq0)) 0 (by decide) rfl q234 dX2_begins_36 ?_
    refine lv_iload hx hb dX2_begins_39 (lv_at hl 3 rfl) ?_
    refine lv_iload hx hb dX2_begins_41 (lv_at hl 3 rfl) ?_
    refine lv_iload_n hx hb dX2_begins_43 rfl (lv_at hl 2 rfl) ?_
    refine lv_icmp_ge (tgt := 54) hx hb dX2_begins_44 (by decide) (fun c2 => ?_) (fun c2 => ?_)
    · have h := ite_t h c2
      refine lv_iconst (v := 0) hx hb dX2_begins_54 (by decide +kernel) ?_
      exact wX2_begins_c3_c5_55 C0 a2 a5 a5 0 (σ) hX hq0 _ h Kb Ke0 _ _ _ hl G
    · have h := ite_f h c2
      refine lv_aload_n hx hb dX2_begins_47 rfl (lv_at hl 1 rfl) ?_
      refine lv_iload hx hb dX2_begins_48 (lv_at hl 3 rfl) ?_
      obtain ⟨b_3, h⟩ := ckB_e h
      refine g_iald C0 G (n := 5) (hX.1 3 (by decide)) ((hX.2.1 3 (by decide)).trans rfl) b_3 dX2_begins_50 ?_
      refine lv_goto (tgt := 55) hx hb dX2_begins_51 (by decide) ?_
      exact wX2_begins_c3_c5_55 C0 a2 a5 a5 (gA σ 3 a5.toNatClampNeg) (σ) hX hq0 _ h Kb Ke0 _ _ _ hl G
set_option maxHeartbeats 400000 in
theorem lX2_begins_c3_c5_29 (C0 : Cx ad dc D RX2 cX2_begins 6 p s m args meth c) (a2 : Int32)  (hX : XOK ks sh) (hq0 : isW q0) : ∀ (n : Nat) (a5 : Int32) (σ : St) (ex : St) (h : iter (fun v : Int32 × St => bX2_begins_c3_c5_29 q0 a2 v.1 v.2) n (a5, σ) = some ex) (Ke0 : ∀  (σ' : St), ex = σ' → ∀ (H : Heap) (locs : List Loc) (ls : Array Slot), lv_has ls 6 [(0, .ref (ad q0))] → GW sh ks ad dc D A s σ' H locs → W p l e RmX2_begins_c3_c5 s m args below meth c H locs 0 0 Q (F0 m 78 ls [])) (H : Heap) (locs : List Loc) (ls : Array Slot) (hl : lv_has ls 6 [(0, .ref (ad q0)), (1, .ref (ad 3)), (2, .int a2), (5, .int a5)]) (G : GW sh ks ad dc D A s σ H locs), W p l e RmX2_begins_c3_c5 s m args below meth c H locs 0 0 Q (F0 m 29 ls []) := by
  intro n
  induction n with
  | zero =>
    intro a5 σ ex h
    cases h
  | succ n ih =>
    intro a5 σ ex h Ke0 H locs ls hl G
    obtain ⟨r, hb1, hr⟩ := iter_e h
    refine wbX2_begins_c3_c5_29 C0 a2 a5 σ hX hq0 r hb1 ?_ ?_ H locs ls hl G
    · intro b5 σ' hv H locs ls hl G
      subst hv
      rcases hr with hr | ⟨a', hr, h2⟩
      · cases hr
      · rw [← Sum.inr.inj hr] at h2
        exact ih b5 σ' ex h2 Ke0 H locs ls hl G
    · intro σ' hv H locs ls hl G
      subst hv
      rcases hr with hr | ⟨a', hr, h2⟩
      · exact Ke0 σ' (Sum.inl.inj hr).symm H locs ls hl G
      · cases hr
set_option maxHeartbeats 400000 in
theorem wX2_begins_c3_c5_29 (C0 : Cx ad dc D RX2 cX2_begins 6 p s m args meth c) (a2 : Int32) (a5 : Int32) (σ : St) (hX : XOK ks sh) (hq0 : isW q0) (o : St) (h : fX2_begins_c3_c5_29 q0 a2 a5 σ = some o) (Kr : KrV p l e RmX2_begins_c3_c5 s m args below meth c cX2_begins Q (GW sh ks ad dc D A s o)) (H : Heap) (locs : List Loc) (ls : Array Slot) (hl : lv_has ls 6 [(0, .ref (ad q0)), (1, .ref (ad 3)), (2, .int a2), (5, .int a5)]) (G : GW sh ks ad dc D A s σ H locs) : W p l e RmX2_begins_c3_c5 s m args below meth c H locs 0 0 Q (F0 m 29 ls []) := by
  have hx := C0.1
  have hb := C0.2.1
  unfold fX2_begins_c3_c5_29 at h
  obtain ⟨ex, h1, h⟩ := bn1_e h
  refine lX2_begins_c3_c5_29 C0 a2  hX hq0 FU a5 σ ex h1 ?_ H locs ls hl G
  · intro σ' hv H locs ls hl G
    rw [hv] at h
    have h : (fX2_begins_c3_c5_78 q0 (σ')) = some o := h
    exact wX2_begins_c3_c5_78 C0 (σ') hX hq0 _ h Kr _ _ _ hl G
set_option maxHeartbeats 400000 in
theorem wX2_begins_c3_c5_0 (C0 : Cx ad dc D RX2 cX2_begins 6 p s m args meth c) (a2 : Int32) (a3 : Int32) (σ : St) (hX : XOK ks sh) (hq0 : isW q0) (o : St) (h : fX2_begins_c3_c5 q0 a2 a3 σ = some o) (Kr : KrV p l e RmX2_begins_c3_c5 s m args below meth c cX2_begins Q (GW sh ks ad dc D A s o)) (H : Heap) (locs : List Loc) (ls : Array Slot) (hl : lv_has ls 6 [(0, .ref (ad q0)), (1, .ref (ad 3)), (2, .int a2), (3, .int a3), (4, .ref (ad 5))]) (G : GW sh ks ad dc D A s σ H locs) : W p l e RmX2_begins_c3_c5 s m args below meth c H locs 0 0 Q (F0 m 0 ls []) := by
  have hx := C0.1
  have hb := C0.2.1
  unfold fX2_begins_c3_c5 at h
  refine lv_aload_n hx hb dX2_begins_0 rfl (lv_at hl 0 rfl) ?_
  refine lv_iload_n hx hb dX2_begins_1 rfl (lv_at hl 2 rfl) ?_
  refine g_putI C0 G in_X2 tyX2_ok nmX2 (ci := 2) rfl (hX.1 _ (xW_l hq0)) (fl := (xFlX2 q0)) ((hX.2.1 _ (xW_l hq0)).trans (xW_s hq0)) 3 (by decide) rfl q239 rfl dX2_begins_2 ⟨rfl, rfl⟩ (fun σ1 H locs e_σ1 G => ?_)
  have h := letB_e h e_σ1
  refine lv_aload_n hx hb dX2_begins_5 rfl (lv_at hl 0 rfl) ?_
  refine lv_iload_n hx hb dX2_begins_6 rfl (lv_at hl 3 rfl) ?_
  refine g_putI C0 G in_X2 tyX2_ok nmX2 (ci := 2) rfl (hX.1 _ (xW_l hq0)) (fl := (xFlX2 q0)) ((hX.2.1 _ (xW_l hq0)).trans (xW_s hq0)) 4 (by decide) rfl q241 rfl dX2_begins_7 ⟨rfl, rfl⟩ (fun σ2 H locs e_σ2 G => ?_)
  have h := letB_e h e_σ2
  refine lv_aload_n hx hb dX2_begins_10 rfl (lv_at hl 0 rfl) ?_
  refine lv_aload hx hb dX2_begins_11 (lv_at hl 4 rfl) ?_
  refine lv_iconst (v := 0) hx hb dX2_begins_13 (by decide +kernel) ?_
  obtain ⟨b_3, h⟩ := ckB_e h
  refine g_iald C0 G (n := 5) (hX.1 5 (by decide)) ((hX.2.1 5 (by decide)).trans rfl) b_3 dX2_begins_14 ?_
  refine g_putI C0 G in_X2 tyX2_ok nmX2 (ci := 2) rfl (hX.1 _ (xW_l hq0)) (fl := (xFlX2 q0)) ((hX.2.1 _ (xW_l hq0)).trans (xW_s hq0)) 5 (by decide) rfl q242 rfl dX2_begins_15 ⟨rfl, rfl⟩ (fun σ4 H locs e_σ4 G => ?_)
  have h := letB_e h e_σ4
  refine lv_aload_n hx hb dX2_begins_18 rfl (lv_at hl 0 rfl) ?_
  refine lv_aload hx hb dX2_begins_19 (lv_at hl 4 rfl) ?_
  refine lv_iconst (v := 4) hx hb dX2_begins_21 (by decide +kernel) ?_
  obtain ⟨b_5, h⟩ := ckB_e h
  refine g_iald C0 G (n := 5) (hX.1 5 (by decide)) ((hX.2.1 5 (by decide)).trans rfl) b_5 dX2_begins_22 ?_
  refine g_putI C0 G in_X2 tyX2_ok nmX2 (ci := 2) rfl (hX.1 _ (xW_l hq0)) (fl := (xFlX2 q0)) ((hX.2.1 _ (xW_l hq0)).trans (xW_s hq0)) 6 (by decide) rfl q243 rfl dX2_begins_23 ⟨rfl, rfl⟩ (fun σ6 H locs e_σ6 G => ?_)
  have h := letB_e h e_σ6
  refine lv_iconst (v := 0) hx hb dX2_begins_26 (by decide +kernel) ?_
  refine lv_istore (lv' := [(5, .int 0), (0, .ref (ad q0)), (1, .ref (ad 3)), (2, .int a2), (3, .int a3), (4, .ref (ad 5))]) hx hb dX2_begins_27 hl (by decide) rfl (fun ls hl => ?_)
  exact wX2_begins_c3_c5_29 C0 a2 0 (σ6) hX hq0 _ h Kr _ _ _ (lv_sub hl [1, 2, 3, 0] rfl) G
theorem kX2_begins_c3_c5 {l : Launch} {ad : Nat → Nat} {dc : Nat → ClassId} {D : va_G} {A : Nat → Prop} {q0 : Nat} (hi : ∀ i j, ad i = ad j → i = j) (hn : ks.Nodup) (hA : ∀ k, k ∈ ks → A (ad k)) {σ : St} {a2 : Int32} {a3 : Int32}  {σ' : St} (hX : XOK ks sh) (hq0 : isW q0) (h : fX2_begins_c3_c5 q0 a2 a3 σ = some (σ')) : Met l yX2_begins (ws_ yX2_begins cX2_begins 6 none) RmX2_begins_c3_c5 (gPc sh ks ad dc D σ [.ref (ad q0), .ref (ad 3), .int a2, .int a3, .ref (ad 5)]) (gQv sh ks ad dc D A σ') 0 0 A :=
  g_metV (by decide) rfl hi hn hA (Nat.le_of_ble_eq_true rfl) (fun p e s m below meth c Q C0 Kr ls hl G => wX2_begins_c3_c5_0 C0 a2 a3 σ hX hq0 (σ') h Kr _ _ ls hl G)
-- X2_isAs_c20
abbrev RmX2_isAs_c20 : Room := { frames := 1, cells := 0, slots := 0, locals := 22 }
theorem hdX2_isAs_c20 : yX2_isAs.cls = RX2 ∧ yX2_isAs.cls ≠ "java/lang/invoke/MethodHandle" ∧ yX2_isAs.cls ≠ "java/lang/invoke/VarHandle" ∧ (parseMethodDescriptor yX2_isAs.desc).map (fun d => d.parameters.length) = some 1 := by decide +kernel
set_option maxHeartbeats 400000 in
theorem wX2_isAs_c20_0 (C0 : Cx ad dc D RX2 cX2_isAs 2 p s m args meth c) (σ : St) (hX : XOK ks sh) (hq0 : isW q0) (o : Int32) (h : fX2_isAs_c20 q0 σ = some o) (Kr : KrZ p l e RmX2_isAs_c20 s m args below meth c cX2_isAs Q (GW sh ks ad dc D A s (σ)) o) (H : Heap) (locs : List Loc) (ls : Array Slot) (hl : lv_has ls 2 [(0, .ref (ad q0)), (1, .ref (ad 20))]) (G : GW sh ks ad dc D A s σ H locs) : W p l e RmX2_isAs_c20 s m args below meth c H locs 0 0 Q (F0 m 0 ls []) := by
  have hx := C0.1
  have hb := C0.2.1
  unfold fX2_isAs_c20 at h
  refine lv_aload_n hx hb dX2_isAs_0 rfl (lv_at hl 0 rfl) ?_
  obtain ⟨r1, h_r1, h⟩ := bn1_e h
  refine g_callVi (rest := []) C0 G hl (ci := 2) rfl (hX.1 _ (xW_l hq0)) (fl := (xFlX2 q0)) ((hX.2.1 _ (xW_l hq0)).trans (xW_s hq0)) (kX2_row (l := l) C0.2.2.2.2.2.2.1 G.2.2.1 G.2.2.2 hX hq0 h_r1) (cwV 0 C0.2.2.2.2.1 (lw_V q1442 q1443 q1444 q110 q1445) rfl rfl rfl hdX2_row ⟨Nat.le_of_ble_eq_true rfl, Nat.le_of_ble_eq_true rfl⟩) rfl (Nat.le_of_ble_eq_true rfl) dX2_isAs_1 ⟨Nat.zero_le _, Nat.zero_le _⟩ (fun H locs G => ?_)
  refine lv_aload_n hx hb dX2_isAs_4 rfl (lv_at hl 1 rfl) ?_
  obtain ⟨r2, h_r2, h⟩ := bn1_e h
  refine g_callVi (rest := [.int r1]) C0 G hl (ci := 2) rfl (hX.1 20 (by decide)) (fl := (xFlX2 20)) ((hX.2.1 20 (by decide)).trans rfl) (kX2_row (l := l) C0.2.2.2.2.2.2.1 G.2.2.1 G.2.2.2 hX isW_20 h_r2) (cwV 0 C0.2.2.2.2.1 (lw_V q1442 q1443 q1444 q110 q1445) rfl rfl rfl hdX2_row ⟨Nat.le_of_ble_eq_true rfl, Nat.le_of_ble_eq_true rfl⟩) rfl (Nat.le_of_ble_eq_true rfl) dX2_isAs_5 ⟨Nat.zero_le _, Nat.zero_le _⟩ (fun H locs G => ?_)
  refine lv_icmp_ne (tgt := 70) hx hb dX2_isAs_8 (by decide) (fun c3 => ?_) (fun c3 => ?_)
  · have h := ite_f h c3
    refine lv_iconst (v := 0) hx hb dX2_isAs_70 (by decide +kernel) ?_
    cases h
    exact Kr _ _ _ _ dX2_isAs_71 (zz_nar (y := 0) (by decide)).1 G
  · have h := ite_t h c3
    refine lv_aload_n hx hb dX2_isAs_11 rfl (lv_at hl 0 rfl) ?_
    refine g_getI C0 G in_X2 (ci := 2) rfl (hX.1 _ (xW_l hq0)) (fl := (xFlX2 q0)) ((hX.2.1 _ (xW_l hq0)).trans (xW_s hq0)) 15 (by decide) rfl q261 dX2_isAs_12 ?_
    refine lv_aload_n hx hb dX2_isAs_15 rfl (lv_at hl 1 rfl) ?_
    refine g_getI C0 G in_X2 (ci := 2) rfl (hX.1 20 (by decide)) (fl := (xFlX2 20)) ((hX.2.1 20 (by decide)).trans rfl) 15 (by decide) rfl q261 dX2_isAs_16 ?_
    refine lv_icmp_ne (tgt := 70) hx hb dX2_isAs_19 (by decide) (fun c4 => ?_) (fun c4 => ?_)
    · have h := ite_f h c4
      refine lv_iconst (v := 0) hx hb dX2_isAs_70 (by decide +kernel) ?_
      cases h
      exact Kr _ _ _ _ dX2_isAs_71 (zz_nar (y := 0) (by decide)).1 G
    · have h := ite_t h c4
      refine lv_aload_n hx hb dX2_isAs_22 rfl (lv_at hl 0 rfl) ?_
      refine g_getI C0 G in_X2 (ci := 2) rfl (hX.1 _ (xW_l hq0)) (fl := (xFlX2 q0)) ((hX.2.1 _ (xW_l hq0)).trans (xW_s hq0)) 16 (by decide) rfl q263 dX2_isAs_23 ?_
      refine lv_aload_n hx hb dX2_isAs_26 rfl (lv_at hl 1 rfl) ?_
      refine g_getI C0 G in_X2 (ci := 2) rfl (hX.1 20 (by decide)) (fl := (xFlX2 20)) ((hX.2.1 20 (by decide)).trans rfl) 16 (by decide) rfl q263 dX2_isAs_27 ?_
      refine lv_icmp_ne (tgt := 70) hx hb dX2_isAs_30 (by decide) (fun c5 => ?_) (fun c5 => ?_)
      · have h := ite_f h c5
        refine lv_iconst (v := 0) hx hb dX2_isAs_70 (by decide +kernel) ?_
        cases h
        exact Kr _ _ _ _ dX2_isAs_71 (zz_nar (y := 0) (by decide)).1 G
      · have h := ite_t h c5
        refine lv_aload_n hx hb dX2_isAs_33 rfl (lv_at hl 0 rfl) ?_
        refine g_getI C0 G in_X2 (ci := 2) rfl (hX.1 _ (xW_l hq0)) (fl := (xFlX2 q0)) ((hX.2.1 _ (xW_l hq0)).trans (xW_s hq0)) 17 (by decide) rfl q265 dX2_isAs_34 ?_
        refine lv_aload_n hx hb dX2_isAs_37 rfl (lv_at hl 1 rfl) ?_
        refine g_getI C0 G in_X2 (ci := 2) rfl (hX.1 20 (by decide)) (fl := (xFlX2 20)) ((hX.2.1 20 (by decide)).trans rfl) 17 (by decide) rfl q265 dX2_isAs_38 ?_
        refine lv_icmp_ne (tgt := 70) hx hb dX2_isAs_41 (by decide) (fun c6 => ?_) (fun c6 => ?_)
        · have h := ite_f h c6
          refine lv_iconst (v := 0) hx hb dX2_isAs_70 (by decide +kernel) ?_
          cases h
          exact Kr _ _ _ _ dX2_isAs_71 (zz_nar (y := 0) (by decide)).1 G
        · have h := ite_t h c6
          refine lv_aload_n hx hb dX2_isAs_44 rfl (lv_at hl 0 rfl) ?_
          refine g_getI C0 G in_X2 (ci := 2) rfl (hX.1 _ (xW_l hq0)) (fl := (xFlX2 q0)) ((hX.2.1 _ (xW_l hq0)).trans (xW_s hq0)) 18 (by decide) rfl q267 dX2_isAs_45 ?_
          refine lv_aload_n hx hb dX2_isAs_48 rfl (lv_at hl 1 rfl) ?_
          refine g_getI C0 G in_X2 (ci := 2) rfl (hX.1 20 (by decide)) (fl := (xFlX2 20)) ((hX.2.1 20 (by decide)).trans rfl) 18 (by decide) rfl q267 dX2_isAs_49 ?_
          refine lv_icmp_ne (tgt := 70) hx hb dX2_isAs_52 (by decide) (fun c7 => ?_) (fun c7 => ?_)
          · have h := ite_f h c7
            refine lv_iconst (v := 0) hx hb dX2_isAs_70 (by decide +kernel) ?_
            cases h
            exact Kr _ _ _ _ dX2_isAs_71 (zz_nar (y := 0) (by decide)).1 G
          · have h := ite_t h c7
            refine lv_aload_n hx hb dX2_isAs_55 rfl (lv_at hl 0 rfl) ?_
            refine g_getI C0 G in_X2 (ci := 2) rfl (hX.1 _ (xW_l hq0)) (fl := (xFlX2 q0)) ((hX.2.1 _ (xW_l hq0)).trans (xW_s hq0)) 19 (by decide) rfl q269 dX2_isAs_56 ?_
            refine lv_aload_n hx hb dX2_isAs_59 rfl (lv_at hl 1 rfl) ?_
            refine g_getI C0 G in_X2 (ci := 2) rfl (hX.1 20 (by decide)) (fl := (xFlX2 20)) ((hX.2.1 20 (by decide)).trans rfl) 19 (by decide) rfl q269 dX2_isAs_60 ?_
            refine lv_icmp_ne (tgt := 70) hx hb dX2_isAs_63 (by decide) (fun c8 => ?_) (fun c8 => ?_)
            · have h := ite_f h c8
              refine lv_iconst (v := 0) hx hb dX2_isAs_70 (by decide +kernel) ?_
              cases h
              exact Kr _ _ _ _ dX2_isAs_71 (zz_nar (y := 0) (by decide)).1 G
            · have h := ite_t h c8
              refine lv_iconst (v := 1) hx hb dX2_isAs_66 (by decide +kernel) ?_
              refine lv_goto (tgt := 71) hx hb dX2_isAs_67 (by decide) ?_
              cases h
              exact Kr _ _ _ _ dX2_isAs_71 (zz_nar (y := 1) (by decide)).1 G
theorem kX2_isAs_c20 {l : Launch} {ad : Nat → Nat} {dc : Nat → ClassId} {D : va_G} {A : Nat → Prop} {q0 : Nat} (hi : ∀ i j, ad i = ad j → i = j) (hn : ks.Nodup) (hA : ∀ k, k ∈ ks → A (ad k)) {σ : St}  {r : Int32} (hX : XOK ks sh) (hq0 : isW q0) (h : fX2_isAs_c20 q0 σ = some r) : Met l yX2_isAs (ws_ yX2_isAs cX2_isAs 2 (some .boolean)) RmX2_isAs_c20 (gPc sh ks ad dc D σ [.ref (ad q0), .ref (ad 20)]) (gQi sh ks ad dc D A σ r) 0 0 A :=
  g_metZ (by decide) rfl hi hn hA (Nat.le_of_ble_eq_true rfl) (fun p e s m below meth c Q C0 Kr ls hl G => wX2_isAs_c20_0 C0  σ hX hq0 r h Kr _ _ ls hl G)
end
