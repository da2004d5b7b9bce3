/-! the walks of lists -/
set_option maxRecDepth 100000
section
variable {q0 w0 nr : Nat} {p : Program} {l : Launch} {e : Env} {s : State} {m : MethodId} {args : Array Value} {below : List Frame} {meth : Method} {c : Code} {Q : State → Prop} {sh : Nat → Sh} {ks : List Nat} {ad : Nat → Nat} {dc : Nat → ClassId} {D : va_G} {A : Nat → Prop}
-- J12_hugeLength
abbrev RmJ12_hugeLength : Room := { frames := 0, cells := 0, slots := 0, locals := 0 }
theorem hdJ12_hugeLength : yJ12_hugeLength.cls ≠ "java/lang/invoke/MethodHandle" ∧ yJ12_hugeLength.cls ≠ "java/lang/invoke/VarHandle" ∧ (parseMethodDescriptor yJ12_hugeLength.desc).map (fun d => d.parameters.length) = some 2 := by decide +kernel
set_option maxHeartbeats 400000 in
theorem wJ12_hugeLength_0 (C0 : Cx ad dc D RJ12 cJ12_hugeLength 3 p s m args meth c) (a0 : Int32) (a1 : Int32) (σ : St) (hX : XOK ks sh) (o : Int32) (h : fJ12_hugeLength sh a0 a1 = some o) (Kr : KrI p l e RmJ12_hugeLength s m args below meth c cJ12_hugeLength Q (GW sh ks ad dc D A s (σ)) o) (H : Heap) (locs : List Loc) (ls : Array Slot) (hl : lv_has ls 3 [(0, .int a0), (1, .int a1)]) (G : GW sh ks ad dc D A s σ H locs) : W p l e RmJ12_hugeLength s m args below meth c H locs 0 0 Q (F0 m 0 ls []) := by
  have hx := C0.1
  have hb := C0.2.1
  unfold fJ12_hugeLength at h
  refine lv_iload_n hx hb dJ12_hugeLength_0 rfl (lv_at hl 0 rfl) ?_
  refine lv_iload_n hx hb dJ12_hugeLength_1 rfl (lv_at hl 1 rfl) ?_
  refine lv_iadd hx hb dJ12_hugeLength_2 ?_
  refine lv_topi (fun x1 e_x1 => ?_)
  have h := letB_e h e_x1
  refine lv_istore_n (lv' := [(2, .int x1), (0, .int a0), (1, .int a1)]) hx hb dJ12_hugeLength_3 rfl hl (by decide) rfl (fun ls hl => ?_)
  refine lv_iload_n hx hb dJ12_hugeLength_4 rfl (lv_at hl 0 rfl) ?_
  refine lv_if_ge (tgt := 49) hx hb dJ12_hugeLength_5 (by decide) (fun c2 => ?_) (fun c2 => ?_)
  · have h := ite_t h c2
    refine lv_iload_n hx hb dJ12_hugeLength_49 rfl (lv_at hl 0 rfl) ?_
    refine lv_ldc hx hb C0.2.2.2.1 (C0.2.2.2.2.1 _ q590) dJ12_hugeLength_50 ?_
    refine lv_icmp_gt (tgt := 58) hx hb dJ12_hugeLength_52 (by decide) (fun c3 => ?_) (fun c3 => ?_)
    · have h := ite_t h c3
      refine lv_iload_n hx hb dJ12_hugeLength_58 rfl (lv_at hl 0 rfl) ?_
      cases h
      exact Kr _ _ _ _ dJ12_hugeLength_59 G
    · have h := ite_f h c3
      refine lv_ldc hx hb C0.2.2.2.1 (C0.2.2.2.2.1 _ q590) dJ12_hugeLength_55 ?_
      cases h
      exact Kr _ _ _ _ dJ12_hugeLength_57 G
  · have h := ite_f h c2
    cases h
theorem kJ12_hugeLength {l : Launch} {ad : Nat → Nat} {dc : Nat → ClassId} {D : va_G} {A : Nat → Prop} {sh : Nat → Sh} (hi : ∀ i j, ad i = ad j → i = j) (hn : ks.Nodup) (hA : ∀ k, k ∈ ks → A (ad k)) {σ : St} {a0 : Int32} {a1 : Int32} {r : Int32} (hX : XOK ks sh) (h : fJ12_hugeLength sh a0 a1 = some r) : Met l yJ12_hugeLength (ws_ yJ12_hugeLength cJ12_hugeLength 3 (some .int)) RmJ12_hugeLength (gPc sh ks ad dc D σ [.int a0, .int a1]) (gQi sh ks ad dc D A σ r) 0 0 A :=
  g_metI (by decide) rfl hi hn hA (Nat.le_of_ble_eq_true rfl) (fun p e s m below meth c Q C0 Kr ls hl G => wJ12_hugeLength_0 C0 a0 a1 σ hX r h Kr _ _ ls hl G)
-- J12_newLength
abbrev RmJ12_newLength : Room := { frames := 1, cells := 0, slots := 0, locals := 30 }
theorem hdJ12_newLength : yJ12_newLength.cls ≠ "java/lang/invoke/MethodHandle" ∧ yJ12_newLength.cls ≠ "java/lang/invoke/VarHandle" ∧ (parseMethodDescriptor yJ12_newLength.desc).map (fun d => d.parameters.length) = some 3 := by decide +kernel
set_option maxHeartbeats 400000 in
theorem wJ12_newLength_0 (C0 : Cx ad dc D RJ12 cJ12_newLength 4 p s m args meth c) (a0 : Int32) (a1 : Int32) (a2 : Int32) (σ : St) (hX : XOK ks sh) (o : Int32) (h : fJ12_newLength sh a0 a1 a2 = some o) (Kr : KrI p l e RmJ12_newLength s m args below meth c cJ12_newLength Q (GW sh ks ad dc D A s (σ)) o) (H : Heap) (locs : List Loc) (ls : Array Slot) (hl : lv_has ls 4 [(0, .int a0), (1, .int a1), (2, .int a2)]) (G : GW sh ks ad dc D A s σ H locs) : W p l e RmJ12_newLength s m args below meth c H locs 0 0 Q (F0 m 0 ls []) := by
  have hx := C0.1
  have hb := C0.2.1
  unfold fJ12_newLength at h
  refine lv_iload_n hx hb dJ12_newLength_0 rfl (lv_at hl 0 rfl) ?_
  refine lv_iload_n hx hb dJ12_newLength_1 rfl (lv_at hl 1 rfl) ?_
  refine lv_iload_n hx hb dJ12_newLength_2 rfl (lv_at hl 2 rfl) ?_
  refine va_mmax hx hb (C0.2.2.1.trans hl.1.symm) C0.2.2.2.1 (C0.2.2.2.2.1 _ q587) (C0.2.2.2.2.1 _ q588) (C0.2.2.2.2.1 _ q145) (C0.2.2.2.2.1 _ q589) (Nat.le_of_ble_eq_true rfl) (Nat.le_of_ble_eq_true rfl) (Nat.zero_le _) (Nat.zero_le _) dJ12_newLength_3 ?_
  refine lv_iadd hx hb dJ12_newLength_6 ?_
  refine lv_topi (fun x1 e_x1 => ?_)
  have h := letB_e h e_x1
  refine lv_istore_n (lv' := [(3, .int x1), (0, .int a0), (1, .int a1), (2, .int a2)]) hx hb dJ12_newLength_7 rfl hl (by decide) rfl (fun ls hl => ?_)
  refine lv_iconst (v := 0) hx hb dJ12_newLength_8 (by decide +kernel) ?_
  refine lv_iload_n hx hb dJ12_newLength_9 rfl (lv_at hl 0 rfl) ?_
  refine lv_icmp_ge (tgt := 21) hx hb dJ12_newLength_10 (by decide) (fun c2 => ?_) (fun c2 => ?_)
  · have h := ite_t h c2
    refine lv_iload_n hx hb dJ12_newLength_21 rfl (lv_at hl 1 rfl) ?_
    refine lv_iload_n hx hb dJ12_newLength_22 rfl (lv_at hl 2 rfl) ?_
    obtain ⟨r3, h_r3, h⟩ := bn1_e h
    refine g_callSi (rest := []) C0 G hl (kJ12_hugeLength (l := l) C0.2.2.2.2.2.2.1 G.2.2.1 G.2.2.2 hX h_r3) (va_cwS 2 C0.2.2.2.2.1 (lw_S q591 q592 q144 q593) rfl rfl rfl hdJ12_hugeLength ⟨Nat.le_of_ble_eq_true rfl, Nat.le_of_ble_eq_true rfl⟩) rfl (Nat.le_of_ble_eq_true rfl) dJ12_newLength_23 ⟨Nat.zero_le _, Nat.zero_le _⟩ (fun H locs G => ?_)
    cases h
    exact Kr _ _ _ _ dJ12_newLength_26 G
  · have h := ite_f h c2
    refine lv_iload_n hx hb dJ12_newLength_13 rfl (lv_at hl 0 rfl) ?_
    refine lv_ldc hx hb C0.2.2.2.1 (C0.2.2.2.2.1 _ q590) dJ12_newLength_14 ?_
    refine lv_icmp_gt (tgt := 21) hx hb dJ12_newLength_16 (by decide) (fun c4 => ?_) (fun c4 => ?_)
    · have h := ite_t h c4
      refine lv_iload_n hx hb dJ12_newLength_21 rfl (lv_at hl 1 rfl) ?_
      refine lv_iload_n hx hb dJ12_newLength_22 rfl (lv_at hl 2 rfl) ?_
      obtain ⟨r5, h_r5, h⟩ := bn1_e h
      refine g_callSi (rest := []) C0 G hl (kJ12_hugeLength (l := l) C0.2.2.2.2.2.2.1 G.2.2.1 G.2.2.2 hX h_r5) (va_cwS 2 C0.2.2.2.2.1 (lw_S q591 q592 q144 q593) rfl rfl rfl hdJ12_hugeLength ⟨Nat.le_of_ble_eq_true rfl, Nat.le_of_ble_eq_true rfl⟩) rfl (Nat.le_of_ble_eq_true rfl) dJ12_newLength_23 ⟨Nat.zero_le _, Nat.zero_le _⟩ (fun H locs G => ?_)
      cases h
      exact Kr _ _ _ _ dJ12_newLength_26 G
    · have h := ite_f h c4
      refine lv_iload_n hx hb dJ12_newLength_19 rfl (lv_at hl 0 rfl) ?_
      cases h
      exact Kr _ _ _ _ dJ12_newLength_20 G
theorem kJ12_newLength {l : Launch} {ad : Nat → Nat} {dc : Nat → ClassId} {D : va_G} {A : Nat → Prop} {sh : Nat → Sh} (hi : ∀ i j, ad i = ad j → i = j) (hn : ks.Nodup) (hA : ∀ k, k ∈ ks → A (ad k)) {σ : St} {a0 : Int32} {a1 : Int32} {a2 : Int32} {r : Int32} (hX : XOK ks sh) (h : fJ12_newLength sh a0 a1 a2 = some r) : Met l yJ12_newLength (ws_ yJ12_newLength cJ12_newLength 4 (some .int)) RmJ12_newLength (gPc sh ks ad dc D σ [.int a0, .int a1, .int a2]) (gQi sh ks ad dc D A σ r) 0 0 A :=
  g_metI (by decide) rfl hi hn hA (Nat.le_of_ble_eq_true rfl) (fun p e s m below meth c Q C0 Kr ls hl G => wJ12_newLength_0 C0 a0 a1 a2 σ hX r h Kr _ _ ls hl G)
end
section
variable {p : Program} {l : Launch} {e : Env} {s : State} {m : MethodId} {args : Array Value} {below : List Frame} {meth : Method} {c : Code} {Q : State → Prop} {ad : Nat → Nat} {dc : Nat → ClassId} {D : va_G} {A : Nat → Prop} {n0 z0 N1 Z1 : Nat}
-- J2_clear
abbrev FrJ2_clear : Nat := 1
abbrev LoJ2_clear : Nat := 20
theorem hdJ2_clear : yJ2_clear.cls = RJ2 ∧ yJ2_clear.cls ≠ "java/lang/invoke/MethodHandle" ∧ yJ2_clear.cls ≠ "java/lang/invoke/VarHandle" ∧ (parseMethodDescriptor yJ2_clear.desc).map (fun d => d.parameters.length) = some 0 := by decide +kernel
theorem mobJ2_clear_27 {a1 : Nat} {a2 : Int32} {a3 : Int32} {σ : St} {η : Eta} {o : (St × Eta) ⊕ (Int32 × St × Eta)} (h : bJ2_clear_27 a1 a2 a3 σ η = some o) : EX η (Sum.elim (fun v : St × Eta => v.2) (fun v : Int32 × St × Eta => v.2.2) o) := by
  unfold bJ2_clear_27 at h
  obtain ⟨hX, h⟩ := ckX_e h
  rcases (Classical.em (a2 ≤ a3)) with c1 | c1
  · have h := ite_t h c1
    cases h
    exact EX.rf
  · have h := ite_f h c1
    obtain ⟨n_2, hs_3, h⟩ := ckO_e h
    obtain ⟨b_4, h⟩ := ckB_e h
    obtain ⟨σ5, e_σ5⟩ : ∃ z : St, z = pR (σ) a1 a3.toNatClampNeg none := ⟨_, rfl⟩
    have h := letB_e h e_σ5
    obtain ⟨x6, e_x6⟩ : ∃ z : Int32, z = a3 + 1 := ⟨_, rfl⟩
    have h := letB_e h e_x6
    cases h
    exact EX.rf
set_option maxHeartbeats 400000 in
theorem wbJ2_clear_27 (C0 : Cx ad dc D RJ2 cJ2_clear 4 p s m args meth c) (a1 : Nat) (a2 : Int32) (a3 : Int32) (σ : St) (η : Eta) (hnm : meth.name = yJ2_clear.name) (o : (St × Eta) ⊕ (Int32 × St × Eta)) (h : bJ2_clear_27 a1 a2 a3 σ η = some o) (Kb : ∀ (b3 : Int32) (σ' : St) (η' : Eta), o = .inr (b3, σ', η') → ∀ (H : Heap) (locs : List Loc) (ls : Array Slot) (cells slots : Nat), lv_has ls 4 [(1, .ref (ad a1)), (2, .int a2), (3, .int b3)] → GW η'.1 (ksOf η') ad dc D A s σ' H locs → EA ad dc A s n0 z0 η' cells slots → W p l e (RA FrJ2_clear LoJ2_clear N1 Z1) s m args below meth c H locs cells slots Q (F0 m 27 ls [])) (Ke0 : ∀  (σ' : St) (η' : Eta), o = .inl (σ', η') → ∀ (H : Heap) (locs : List Loc) (ls : Array Slot) (cells slots : Nat), lv_has ls 4 [] → GW η'.1 (ksOf η') ad dc D A s σ' H locs → EA ad dc A s n0 z0 η' cells slots → W p l e (RA FrJ2_clear LoJ2_clear N1 Z1) s m args below meth c H locs cells slots Q (F0 m 42 ls [])) (hN : (Sum.elim (fun v : St × Eta => v.2) (fun v : Int32 × St × Eta => v.2.2) o).2.1 ≤ n0 + N1 ∧ (Sum.elim (fun v : St × Eta => v.2) (fun v : Int32 × St × Eta => v.2.2) o).2.2 ≤ z0 + Z1) (H : Heap) (locs : List Loc) (ls : Array Slot) (cells slots : Nat) (hl : lv_has ls 4 [(1, .ref (ad a1)), (2, .int a2), (3, .int a3)]) (G : GW η.1 (ksOf η) ad dc D A s σ H locs) (E : EA ad dc A s n0 z0 η cells slots) : W p l e (RA FrJ2_clear LoJ2_clear N1 Z1) s m args below meth c H locs cells slots Q (F0 m 27 ls []) := by
  have hx := C0.1
  have hb := C0.2.1
  have hcz := a_le E (mobJ2_clear_27 h) hN
  unfold bJ2_clear_27 at h
  obtain ⟨hX, h⟩ := ckX_e h
  refine lv_iload_n hx hb dJ2_clear_27 rfl (lv_at hl 2 rfl) ?_
  refine lv_iload_n hx hb dJ2_clear_28 rfl (lv_at hl 1 rfl) ?_
  refine lv_icmp_ge (tgt := 42) hx hb dJ2_clear_29 (by decide) (fun c1 => ?_) (fun c1 => ?_)
  · have h := ite_t h c1
    cases h
    exact Ke0 (σ) (η) rfl _ _ _ _ _ (lv_sub hl [] rfl) G E
  · have h := ite_f h c1
    refine lv_aload_n hx hb dJ2_clear_32 rfl (lv_at hl 0 rfl) ?_
    refine lv_iload_n hx hb dJ2_clear_33 rfl (lv_at hl 2 rfl) ?_
    refine lv_null hx hb dJ2_clear_34 ?_
    obtain ⟨n_2, hs_3, h⟩ := ckO_e h
    obtain ⟨b_4, h⟩ := ckB_e h
    refine g_aastN C0 G (n := n_2) (ks_mem E.2.2.2.1 (by rw [hs_3]; exact (by decide : (2 : Nat) ≠ 9))) hs_3 b_4 dJ2_clear_35 (fun σ5 H locs e_σ5 G => ?_)
    have h := letB_e h e_σ5
    obtain ⟨x6, e_x6⟩ : ∃ z : Int32, z = a3 + 1 := ⟨_, rfl⟩
    have h := letB_e h e_x6
    refine lv_iinc (v := x6) (lv' := [(3, .int x6), (1, .ref (ad a1)), (2, .int a2)]) hx hb dJ2_clear_36 hl (k := 2) rfl ((congrArg (fun z => a3 + z) (show Int32.ofInt 1 = 1 by decide)).trans e_x6.symm) (by decide) rfl (fun ls hl => ?_)
    refine lv_goto (tgt := 27) hx hb dJ2_clear_39 (by decide) ?_
    cases h
    exact Kb x6 (σ5) (η) rfl _ _ _ _ _ (lv_sub hl [1, 2, 0] rfl) G E
theorem moxJ2_clear_27 {a1 : Nat} {a2 : Int32} {ex : St × Eta} {o : St × Eta} (h : xJ2_clear_27 a1 a2 ex = some o) : EX ((fun v : St × Eta => v.2) ex) o.2 := by
  rcases ex with ⟨σ', η'⟩
  · have h : (some (σ', η')) = some o := h
    cases h
    exact EX.rf
theorem mofJ2_clear_27 {a1 : Nat} {a2 : Int32} {a3 : Int32} {σ : St} {η : Eta} {o : St × Eta} (h : fJ2_clear_27 a1 a2 a3 σ η = some o) : EX η o.2 := by
  unfold fJ2_clear_27 at h
  obtain ⟨ex, h1, h⟩ := bn1_e h
  exact EX.tr (mo_iter (ga := (fun v : Int32 × St × Eta => v.2.2)) (gb := (fun v : St × Eta => v.2)) (fun a o h => mobJ2_clear_27 h) FU _ ex h1) (moxJ2_clear_27 h)
set_option maxHeartbeats 400000 in
theorem lJ2_clear_27 (C0 : Cx ad dc D RJ2 cJ2_clear 4 p s m args meth c) (a1 : Nat) (a2 : Int32) (hnm : meth.name = yJ2_clear.name) : ∀ (n : Nat) (a3 : Int32) (σ : St) (η : Eta) (ex : St × Eta) (h : iter (fun v : Int32 × St × Eta => bJ2_clear_27 a1 a2 v.1 v.2.1 v.2.2) n (a3, σ, η) = some ex) (Ke0 : ∀  (σ' : St) (η' : Eta), ex = (σ', η') → ∀ (H : Heap) (locs : List Loc) (ls : Array Slot) (cells slots : Nat), lv_has ls 4 [] → GW η'.1 (ksOf η') ad dc D A s σ' H locs → EA ad dc A s n0 z0 η' cells slots → W p l e (RA FrJ2_clear LoJ2_clear N1 Z1) s m args below meth c H locs cells slots Q (F0 m 42 ls [])) (hN : ((fun v : St × Eta => v.2) ex).2.1 ≤ n0 + N1 ∧ ((fun v : St × Eta => v.2) ex).2.2 ≤ z0 + Z1) (H : Heap) (locs : List Loc) (ls : Array Slot) (cells slots : Nat) (hl : lv_has ls 4 [(1, .ref (ad a1)), (2, .int a2), (3, .int a3)]) (G : GW η.1 (ksOf η) ad dc D A s σ H locs) (E : EA ad dc A s n0 z0 η cells slots), W p l e (RA FrJ2_clear LoJ2_clear N1 Z1) s m args below meth c H locs cells slots Q (F0 m 27 ls []) := by
  intro n
  induction n with
  | zero =>
    intro a3 σ η ex h
    cases h
  | succ n ih =>
    intro a3 σ η ex h Ke0 hN H locs ls cells slots hl G E
    obtain ⟨r, hb1, hr⟩ := iter_e h
    have hNr : (Sum.elim (fun v : St × Eta => v.2) (fun v : Int32 × St × Eta => v.2.2) r).2.1 ≤ n0 + N1 ∧ (Sum.elim (fun v : St × Eta => v.2) (fun v : Int32 × St × Eta => v.2.2) r).2.2 ≤ z0 + Z1 := by
      rcases hr with hr | ⟨a', hr, h2⟩
      · rw [hr]; exact hN
      · rw [hr]; exact a_leq (mo_iter (ga := (fun v : Int32 × St × Eta => v.2.2)) (gb := (fun v : St × Eta => v.2)) (fun a o h => mobJ2_clear_27 h) n a' ex h2) hN
    refine wbJ2_clear_27 C0 a1 a2 a3 σ η hnm r hb1 ?_ ?_ hNr H locs ls cells slots hl G E
    · intro b3 σ' η' hv H locs ls cells slots hl G E
      subst hv
      rcases hr with hr | ⟨a', hr, h2⟩
      · cases hr
      · rw [← Sum.inr.inj hr] at h2
        exact ih b3 σ' η' ex h2 Ke0 hN H locs ls cells slots hl G E
    · intro σ' η' hv H locs ls cells slots hl G E
      subst hv
      rcases hr with hr | ⟨a', hr, h2⟩
      · exact Ke0 σ' η' (Sum.inl.inj hr).symm H locs ls cells slots hl G E
      · cases hr
set_option maxHeartbeats 400000 in
theorem wJ2_clear_27 (C0 : Cx ad dc D RJ2 cJ2_clear 4 p s m args meth c) (a1 : Nat) (a2 : Int32) (a3 : Int32) (σ : St) (η : Eta) (hnm : meth.name = yJ2_clear.name) (o : St × Eta) (h : fJ2_clear_27 a1 a2 a3 σ η = some o) (Kr : KrAV p l e (RA FrJ2_clear LoJ2_clear N1 Z1) s m args below meth c cJ2_clear Q (GW o.2.1 (ksOf o.2) ad dc D A s o.1) N1 Z1) (hN : o.2.2.1 ≤ n0 + N1 ∧ o.2.2.2 ≤ z0 + Z1) (H : Heap) (locs : List Loc) (ls : Array Slot) (cells slots : Nat) (hl : lv_has ls 4 [(1, .ref (ad a1)), (2, .int a2), (3, .int a3)]) (G : GW η.1 (ksOf η) ad dc D A s σ H locs) (E : EA ad dc A s n0 z0 η cells slots) : W p l e (RA FrJ2_clear LoJ2_clear N1 Z1) s m args below meth c H locs cells slots Q (F0 m 27 ls []) := by
  have hx := C0.1
  have hb := C0.2.1
  unfold fJ2_clear_27 at h
  obtain ⟨ex, h1, h⟩ := bn1_e h
  have hNx := a_leq (moxJ2_clear_27 h) hN
  refine lJ2_clear_27 C0 a1 a2 hnm FU a3 σ η ex h1 ?_ hNx H locs ls cells slots hl G E
  · intro σ' η' hv H locs ls cells slots hl G E
    rw [hv] at h
    have h : (some (σ', η')) = some o := h
    cases h
    have hce := a_end E hN
    refine W.widen (k := N1) (n := Z1) hce.1 hce.2 ?_
    exact Kr _ _ _ _ dJ2_clear_42 G
theorem mofJ2_clear_0 {a0 : Nat} {σ : St} {η : Eta} {o : St × Eta} (h : fJ2_clear_0 a0 σ η = some o) : EX η o.2 := by
  unfold fJ2_clear_0 at h
  obtain ⟨hX, h⟩ := ckX_e h
  obtain ⟨hs_1, h⟩ := ckS_e h
  obtain ⟨hs_2, h⟩ := ckS_e h
  obtain ⟨σ3, e_σ3⟩ : ∃ z : St, z = pI (σ) a0 0 ((gI σ a0 0) + 1) := ⟨_, rfl⟩
  have h := letB_e h e_σ3
  obtain ⟨hs_4, h⟩ := ckS_e h
  obtain ⟨v5, e_v5, h⟩ := ckN_e h
  obtain ⟨hs_6, h⟩ := ckS_e h
  obtain ⟨x7, e_x7⟩ : ∃ z : Int32, z = gI σ3 a0 2 := ⟨_, rfl⟩
  have h := letB_e h e_x7
  obtain ⟨hs_8, h⟩ := ckS_e h
  obtain ⟨σ9, e_σ9⟩ : ∃ z : St, z = pI (σ3) a0 2 0 := ⟨_, rfl⟩
  have h := letB_e h e_σ9
  exact EX.tr EX.rf (mofJ2_clear_27 h)
set_option maxHeartbeats 400000 in
theorem wJ2_clear_0 (C0 : Cx ad dc D RJ2 cJ2_clear 4 p s m args meth c) (a0 : Nat) (σ : St) (η : Eta) (hnm : meth.name = yJ2_clear.name) (o : St × Eta) (h : fJ2_clear_0 a0 σ η = some o) (Kr : KrAV p l e (RA FrJ2_clear LoJ2_clear N1 Z1) s m args below meth c cJ2_clear Q (GW o.2.1 (ksOf o.2) ad dc D A s o.1) N1 Z1) (hN : o.2.2.1 ≤ n0 + N1 ∧ o.2.2.2 ≤ z0 + Z1) (H : Heap) (locs : List Loc) (ls : Array Slot) (cells slots : Nat) (hl : lv_has ls 4 [(0, .ref (ad a0))]) (G : GW η.1 (ksOf η) ad dc D A s σ H locs) (E : EA ad dc A s n0 z0 η cells slots) : W p l e (RA FrJ2_clear LoJ2_clear N1 Z1) s m args below meth c H locs cells slots Q (F0 m 0 ls []) := by
  have hx := C0.1
  have hb := C0.2.1
  have hcz := a_le E (mofJ2_clear_0 h) hN
  unfold fJ2_clear_0 at h
  obtain ⟨hX, h⟩ := ckX_e h
  refine lv_aload_n hx hb dJ2_clear_0 rfl (lv_at hl 0 rfl) ?_
  refine lv_dup hx hb dJ2_clear_1 rfl ?_
  obtain ⟨hs_1, h⟩ := ckS_e h
  refine g_getF C0 G in_J2 (ci := 24) rfl (ks_mem E.2.2.2.1 (by rw [hs_1]; exact (by decide : (0 : Nat) ≠ 9))) (fl := xDf24) hs_1 0 (by decide) rfl q182 q183 dJ2_clear_2 rfl ?_
  refine lv_iconst (v := 1) hx hb dJ2_clear_5 (by decide +kernel) ?_
  refine lv_iadd hx hb dJ2_clear_6 ?_
  obtain ⟨hs_2, h⟩ := ckS_e h
  refine g_putSI C0 G in_J2 tyJ2_ok nmJ2 (ci := 24) rfl (ks_mem E.2.2.2.1 (by rw [hs_2]; exact (by decide : (0 : Nat) ≠ 9))) (fl := xDf24) hs_2 0 (by decide) rfl q182 q183 rfl dJ2_clear_7 ⟨rfl, rfl⟩ (fun σ3 H locs e_σ3 G => ?_)
  have h := letB_e h e_σ3
  refine lv_aload_n hx hb dJ2_clear_10 rfl (lv_at hl 0 rfl) ?_
  obtain ⟨hs_4, h⟩ := ckS_e h
  obtain ⟨v5, e_v5, h⟩ := ckN_e h
  refine g_get C0 G in_J2 (ci := 24) rfl (ks_mem E.2.2.2.1 (by rw [hs_4]; exact (by decide : (0 : Nat) ≠ 9))) (fl := xDf24) hs_4 1 (by decide) rfl q179 dJ2_clear_11 (fv_s e_v5) ?_
  refine lv_astore_n (lv' := [(1, .ref (ad v5)), (0, .ref (ad a0))]) hx hb dJ2_clear_14 rfl hl (by decide) rfl (fun ls hl => ?_)
  refine lv_aload_n hx hb dJ2_clear_15 rfl (lv_at hl 1 rfl) ?_
  obtain ⟨hs_6, h⟩ := ckS_e h
  refine g_get C0 G in_J2 (ci := 24) rfl (ks_mem E.2.2.2.1 (by rw [hs_6]; exact (by decide : (0 : Nat) ≠ 9))) (fl := xDf24) hs_6 2 (by decide) rfl q180 dJ2_clear_16 rfl ?_
  refine lv_topi (fun x7 e_x7 => ?_)
  have h := letB_e h e_x7
  refine lv_istore_n (lv' := [(2, .int x7), (1, .ref (ad v5)), (0, .ref (ad a0))]) hx hb dJ2_clear_19 rfl hl (by decide) rfl (fun ls hl => ?_)
  refine lv_aload_n hx hb dJ2_clear_20 rfl (lv_at hl 2 rfl) ?_
  refine lv_iconst (v := 0) hx hb dJ2_clear_21 (by decide +kernel) ?_
  refine lv_dup_x1 hx hb dJ2_clear_22 rfl rfl ?_
  obtain ⟨hs_8, h⟩ := ckS_e h
  refine g_putI C0 G in_J2 tyJ2_ok nmJ2 (ci := 24) rfl (ks_mem E.2.2.2.1 (by rw [hs_8]; exact (by decide : (0 : Nat) ≠ 9))) (fl := xDf24) hs_8 2 (by decide) rfl q180 rfl dJ2_clear_23 ⟨rfl, rfl⟩ (fun σ9 H locs e_σ9 G => ?_)
  have h := letB_e h e_σ9
  refine lv_istore_n (lv' := [(3, .int 0), (2, .int x7), (1, .ref (ad v5)), (0, .ref (ad a0))]) hx hb dJ2_clear_26 rfl hl (by decide) rfl (fun ls hl => ?_)
  exact wJ2_clear_27 C0 v5 x7 0 (σ9) (η) hnm _ h Kr hN _ _ _ _ _ (lv_sub hl [2, 1, 0] rfl) G E
theorem mofJ2_clear {a0 : Nat} {σ : St} {η : Eta} {o : St × Eta} (h : fJ2_clear a0 σ η = some o) : EX η o.2 := mofJ2_clear_0 h
theorem kJ2_clear {l : Launch} {ad : Nat → Nat} {dc : Nat → ClassId} {D : va_G} {A : Nat → Prop} (hi : ∀ i j, ad i = ad j → i = j) {σ σ' : St} {η η' : Eta} (hA : ∀ k, k ∈ ksOf η → A (ad k)) {a0 : Nat}  (h : fJ2_clear a0 σ η = some (σ', η')) : aMet l ad dc D A yJ2_clear cJ2_clear 4 none FrJ2_clear LoJ2_clear σ η η' [.ref (ad a0)] (aQv ad dc D A σ' η') :=
  a_metV (by decide) rfl hi hA (Nat.le_of_ble_eq_true rfl) (fun p e s m below meth c Q C0 hnm Kr E ls hl G => wJ2_clear_0 C0 a0 σ η hnm (σ', η') h Kr a_kN _ _ _ _ _ hl G E)
-- J14_copyOf_2_cM
abbrev FrJ14_copyOf_2_cM : Nat := 1
abbrev LoJ14_copyOf_2_cM : Nat := 40
theorem hdJ14_copyOf_2_cM : yJ14_copyOf_2.cls ≠ "java/lang/invoke/MethodHandle" ∧ yJ14_copyOf_2.cls ≠ "java/lang/invoke/VarHandle" ∧ (parseMethodDescriptor yJ14_copyOf_2.desc).map (fun d => d.parameters.length) = some 3 := by decide +kernel
theorem mofJ14_copyOf_2_cM_10 {a0 : Nat} {a1 : Int32} {t0 : Nat} {σ : St} {η : Eta} {o : Nat × St × Eta} (h : fJ14_copyOf_2_cM_10 a0 a1 t0 σ η = some o) : EX η o.2.2 := by
  unfold fJ14_copyOf_2_cM_10 at h
  obtain ⟨hX, h⟩ := ckX_e h
  obtain ⟨n_1, hs_2, h⟩ := ckO_e h
  obtain ⟨n_3, hs_4, h⟩ := ckO_e h
  obtain ⟨n_5, hs_6, h⟩ := ckO_e h
  obtain ⟨b_7, h⟩ := ckC_e h
  obtain ⟨ho_, h⟩ := ckP_e h
  obtain ⟨σ8, e_σ8⟩ : ∃ z : St, z = pCR (σ) a0 t0 (0 : Int32).toNatClampNeg (0 : Int32).toNatClampNeg (if a1 < (Int32.ofNat n_1) then a1 else (Int32.ofNat n_1)).toNatClampNeg := ⟨_, rfl⟩
  have h := letB_e h e_σ8
  cases h
  exact EX.rf
set_option maxHeartbeats 400000 in
theorem wJ14_copyOf_2_cM_10 (C0 : Cx ad dc D RJ14 cJ14_copyOf_2 4 p s m args meth c) (a0 : Nat) (a1 : Int32) (t0 : Nat) (σ : St) (η : Eta) (hnm : meth.name = yJ14_copyOf_2.name) (o : Nat × St × Eta) (h : fJ14_copyOf_2_cM_10 a0 a1 t0 σ η = some o) (Kr : KrAR p l e (RA FrJ14_copyOf_2_cM LoJ14_copyOf_2_cM N1 Z1) s m args below meth c cJ14_copyOf_2 Q (GW o.2.2.1 (ksOf o.2.2) ad dc D A s o.2.1) N1 Z1 (ad o.1)) (hN : o.2.2.2.1 ≤ n0 + N1 ∧ o.2.2.2.2 ≤ z0 + Z1) (H : Heap) (locs : List Loc) (ls : Array Slot) (cells slots : Nat) (hl : lv_has ls 4 [(0, .ref (ad a0)), (1, .int a1)]) (G : GW η.1 (ksOf η) ad dc D A s σ H locs) (E : EA ad dc A s n0 z0 η cells slots) : W p l e (RA FrJ14_copyOf_2_cM LoJ14_copyOf_2_cM N1 Z1) s m args below meth c H locs cells slots Q (F0 m 10 ls [.ref (ad t0)]) := by
  have hx := C0.1
  have hb := C0.2.1
  have hcz := a_le E (mofJ14_copyOf_2_cM_10 h) hN
  unfold fJ14_copyOf_2_cM_10 at h
  obtain ⟨hX, h⟩ := ckX_e h
  refine lv_goto (tgt := 24) hx hb dJ14_copyOf_2_10 (by decide) ?_
  refine lv_astore_n (lv' := [(3, .ref (ad t0)), (0, .ref (ad a0)), (1, .int a1)]) hx hb dJ14_copyOf_2_24 rfl hl (by decide) rfl (fun ls hl => ?_)
  refine lv_aload_n hx hb dJ14_copyOf_2_25 rfl (lv_at hl 1 rfl) ?_
  refine lv_iconst (v := 0) hx hb dJ14_copyOf_2_26 (by decide +kernel) ?_
  refine lv_aload_n hx hb dJ14_copyOf_2_27 rfl (lv_at hl 0 rfl) ?_
  refine lv_iconst (v := 0) hx hb dJ14_copyOf_2_28 (by decide +kernel) ?_
  refine lv_aload_n hx hb dJ14_copyOf_2_29 rfl (lv_at hl 1 rfl) ?_
  obtain ⟨n_1, hs_2, h⟩ := ckO_e h
  refine g_alenO C0 G (n := n_1) (ks_mem E.2.2.2.1 (by rw [hs_2]; exact (by decide : (2 : Nat) ≠ 9))) hs_2 dJ14_copyOf_2_30 ?_
  refine lv_iload_n hx hb dJ14_copyOf_2_31 rfl (lv_at hl 2 rfl) ?_
  refine va_mmin hx hb (C0.2.2.1.trans hl.1.symm) C0.2.2.2.1 (C0.2.2.2.2.1 _ q574) (C0.2.2.2.2.1 _ q575) (C0.2.2.2.2.1 _ q145) (C0.2.2.2.2.1 _ q576) (Nat.le_of_ble_eq_true rfl) (Nat.le_of_ble_eq_true rfl) hcz.1 hcz.2 dJ14_copyOf_2_32 ?_
  obtain ⟨n_3, hs_4, h⟩ := ckO_e h
  obtain ⟨n_5, hs_6, h⟩ := ckO_e h
  obtain ⟨b_7, h⟩ := ckC_e h
  obtain ⟨ho_, h⟩ := ckP_e h
  refine g_copyR C0 G (fun k h => ks_mem E.2.2.2.1 h) hl (n0 := n_3) (n1 := n_5) (ks_mem E.2.2.2.1 (by rw [hs_4]; exact (by decide : (2 : Nat) ≠ 9))) hs_4 (ks_mem E.2.2.2.1 (by rw [hs_6]; exact (by decide : (2 : Nat) ≠ 9))) hs_6 b_7 ho_ q577 q517 q516 q121 (Nat.le_of_ble_eq_true rfl) (Nat.le_of_ble_eq_true rfl) dJ14_copyOf_2_35 (fun σ8 H locs e_σ8 G => ?_)
  have h := letB_e h e_σ8
  refine lv_aload_n hx hb dJ14_copyOf_2_38 rfl (lv_at hl 0 rfl) ?_
  cases h
  have hce := a_end E hN
  refine W.widen (k := N1) (n := Z1) hce.1 hce.2 ?_
  exact Kr _ _ _ _ dJ14_copyOf_2_39 G
theorem mofJ14_copyOf_2_cM_0 {a0 : Nat} {a1 : Int32} {σ : St} {η : Eta} {o : Nat × St × Eta} (h : fJ14_copyOf_2_cM_0 a0 a1 σ η = some o) : EX η o.2.2 := by
  unfold fJ14_copyOf_2_cM_0 at h
  obtain ⟨hX, h⟩ := ckX_e h
  obtain ⟨b_1, h⟩ := ckW_e h
  exact EX.tr (EX.tr EX.rf (EX.aE (by show (2 : Nat) ≠ 9; decide))) (mofJ14_copyOf_2_cM_10 h)
set_option maxHeartbeats 400000 in
theorem wJ14_copyOf_2_cM_0 (C0 : Cx ad dc D RJ14 cJ14_copyOf_2 4 p s m args meth c) (a0 : Nat) (a1 : Int32) (σ : St) (η : Eta) (hnm : meth.name = yJ14_copyOf_2.name) (o : Nat × St × Eta) (h : fJ14_copyOf_2_cM_0 a0 a1 σ η = some o) (Kr : KrAR p l e (RA FrJ14_copyOf_2_cM LoJ14_copyOf_2_cM N1 Z1) s m args below meth c cJ14_copyOf_2 Q (GW o.2.2.1 (ksOf o.2.2) ad dc D A s o.2.1) N1 Z1 (ad o.1)) (hN : o.2.2.2.1 ≤ n0 + N1 ∧ o.2.2.2.2 ≤ z0 + Z1) (H : Heap) (locs : List Loc) (ls : Array Slot) (cells slots : Nat) (hl : lv_has ls 4 [(0, .ref (ad a0)), (1, .int a1), (2, .ref (dc 9))]) (G : GW η.1 (ksOf η) ad dc D A s σ H locs) (E : EA ad dc A s n0 z0 η cells slots) : W p l e (RA FrJ14_copyOf_2_cM LoJ14_copyOf_2_cM N1 Z1) s m args below meth c H locs cells slots Q (F0 m 0 ls []) := by
  have hx := C0.1
  have hb := C0.2.1
  have hcz := a_le E (mofJ14_copyOf_2_cM_0 h) hN
  unfold fJ14_copyOf_2_cM_0 at h
  obtain ⟨hX, h⟩ := ckX_e h
  refine lv_aload_n hx hb dJ14_copyOf_2_0 rfl (lv_at hl 2 rfl) ?_
  refine a_ldcM C0 q572 dJ14_copyOf_2_1 ?_
  refine a_acmp (tgt := 13) C0 dJ14_copyOf_2_3 (by decide) ?_
  refine lv_iload_n hx hb dJ14_copyOf_2_6 rfl (lv_at hl 1 rfl) ?_
  obtain ⟨b_1, h⟩ := ckW_e h
  refine a_newQ C0 G E 3 rfl q573 C0.2.2.2.2.2.2.2.1.2.1 b_1 (a_le1 E (mofJ14_copyOf_2_cM_10 h) hN) (a_le2 E (mofJ14_copyOf_2_cM_10 h) hN) dJ14_copyOf_2_7 (fun H G E => ?_)
  exact wJ14_copyOf_2_cM_10 C0 a0 a1 (η.2.1) (aS (σ) η.2.1) (aE η (2, 3, a1.toNatClampNeg, []) a1.toNatClampNeg) hnm _ h Kr hN _ _ _ _ _ (lv_sub hl [0, 1] rfl) G E
theorem mofJ14_copyOf_2_cM {a0 : Nat} {a1 : Int32} {σ : St} {η : Eta} {o : Nat × St × Eta} (h : fJ14_copyOf_2_cM a0 a1 σ η = some o) : EX η o.2.2 := mofJ14_copyOf_2_cM_0 h
theorem kJ14_copyOf_2_cM {l : Launch} {ad : Nat → Nat} {dc : Nat → ClassId} {D : va_G} {A : Nat → Prop} (hi : ∀ i j, ad i = ad j → i = j) {σ σ' : St} {η η' : Eta} (hA : ∀ k, k ∈ ksOf η → A (ad k)) {a0 : Nat} {a1 : Int32} {r : Nat} (h : fJ14_copyOf_2_cM a0 a1 σ η = some (r, σ', η')) : aMet l ad dc D A yJ14_copyOf_2 cJ14_copyOf_2 4 (some (.array (.object "java/lang/Object"))) FrJ14_copyOf_2_cM LoJ14_copyOf_2_cM σ η η' [.ref (ad a0), .int a1, .ref (dc 9)] (aQr ad dc D A r σ' η') :=
  a_metR (Or.inr ⟨_, rfl⟩) (by decide) rfl hi hA (Nat.le_of_ble_eq_true rfl) (fun p e s m below meth c Q C0 hnm Kr E ls hl G => wJ14_copyOf_2_cM_0 C0 a0 a1 σ η hnm (r, σ', η') h Kr a_kN _ _ _ _ _ hl G E)
-- J14_copyOf
abbrev FrJ14_copyOf : Nat := 2
abbrev LoJ14_copyOf : Nat := 63
theorem hdJ14_copyOf : yJ14_copyOf.cls ≠ "java/lang/invoke/MethodHandle" ∧ yJ14_copyOf.cls ≠ "java/lang/invoke/VarHandle" ∧ (parseMethodDescriptor yJ14_copyOf.desc).map (fun d => d.parameters.length) = some 2 := by decide +kernel
theorem mofJ14_copyOf_9 {t0 : Nat} {σ : St} {η : Eta} {o : Nat × St × Eta} (h : fJ14_copyOf_9 t0 σ η = some o) : EX η o.2.2 := by
  unfold fJ14_copyOf_9 at h
  obtain ⟨hX, h⟩ := ckX_e h
  cases h
  exact EX.rf
set_option maxHeartbeats 400000 in
theorem wJ14_copyOf_9 (C0 : Cx ad dc D RJ14 cJ14_copyOf 2 p s m args meth c) (t0 : Nat) (σ : St) (η : Eta) (hnm : meth.name = yJ14_copyOf.name) (o : Nat × St × Eta) (h : fJ14_copyOf_9 t0 σ η = some o) (Kr : KrAR p l e (RA FrJ14_copyOf LoJ14_copyOf N1 Z1) s m args below meth c cJ14_copyOf Q (GW o.2.2.1 (ksOf o.2.2) ad dc D A s o.2.1) N1 Z1 (ad o.1)) (hN : o.2.2.2.1 ≤ n0 + N1 ∧ o.2.2.2.2 ≤ z0 + Z1) (H : Heap) (locs : List Loc) (ls : Array Slot) (cells slots : Nat) (hl : lv_has ls 2 []) (G : GW η.1 (ksOf η) ad dc D A s σ H locs) (E : EA ad dc A s n0 z0 η cells slots) : W p l e (RA FrJ14_copyOf LoJ14_copyOf N1 Z1) s m args below meth c H locs cells slots Q (F0 m 9 ls [.ref (ad t0)]) := by
  have hx := C0.1
  have hb := C0.2.1
  have hcz := a_le E (mofJ14_copyOf_9 h) hN
  unfold fJ14_copyOf_9 at h
  obtain ⟨hX, h⟩ := ckX_e h
  cases h
  have hce := a_end E hN
  refine W.widen (k := N1) (n := Z1) hce.1 hce.2 ?_
  exact Kr _ _ _ _ dJ14_copyOf_9 G
theorem mofJ14_copyOf_0 {a0 : Nat} {a1 : Int32} {σ : St} {η : Eta} {o : Nat × St × Eta} (h : fJ14_copyOf_0 a0 a1 σ η = some o) : EX η o.2.2 := by
  unfold fJ14_copyOf_0 at h
  obtain ⟨hX, h⟩ := ckX_e h
  obtain ⟨n_1, hs_2, h⟩ := ckO_e h
  obtain ⟨r3, σ4, η5, h_6, h⟩ := bn3_e h
  have m_η5 := mofJ14_copyOf_2_cM h_6
  exact EX.tr (EX.tr EX.rf m_η5) (mofJ14_copyOf_9 h)
set_option maxHeartbeats 400000 in
theorem wJ14_copyOf_0 (C0 : Cx ad dc D RJ14 cJ14_copyOf 2 p s m args meth c) (a0 : Nat) (a1 : Int32) (σ : St) (η : Eta) (hnm : meth.name = yJ14_copyOf.name) (o : Nat × St × Eta) (h : fJ14_copyOf_0 a0 a1 σ η = some o) (Kr : KrAR p l e (RA FrJ14_copyOf LoJ14_copyOf N1 Z1) s m args below meth c cJ14_copyOf Q (GW o.2.2.1 (ksOf o.2.2) ad dc D A s o.2.1) N1 Z1 (ad o.1)) (hN : o.2.2.2.1 ≤ n0 + N1 ∧ o.2.2.2.2 ≤ z0 + Z1) (H : Heap) (locs : List Loc) (ls : Array Slot) (cells slots : Nat) (hl : lv_has ls 2 [(0, .ref (ad a0)), (1, .int a1)]) (G : GW η.1 (ksOf η) ad dc D A s σ H locs) (E : EA ad dc A s n0 z0 η cells slots) : W p l e (RA FrJ14_copyOf LoJ14_copyOf N1 Z1) s m args below meth c H locs cells slots Q (F0 m 0 ls []) := by
  have hx := C0.1
  have hb := C0.2.1
  have hcz := a_le E (mofJ14_copyOf_0 h) hN
  unfold fJ14_copyOf_0 at h
  obtain ⟨hX, h⟩ := ckX_e h
  refine lv_aload_n hx hb dJ14_copyOf_0 rfl (lv_at hl 0 rfl) ?_
  refine lv_iload_n hx hb dJ14_copyOf_1 rfl (lv_at hl 1 rfl) ?_
  refine lv_aload_n hx hb dJ14_copyOf_2 rfl (lv_at hl 0 rfl) ?_
  obtain ⟨n_1, hs_2, h⟩ := ckO_e h
  refine a_getC C0 G hl (n := n_1) (ks_mem E.2.2.2.1 (by rw [hs_2]; exact (by decide : (2 : Nat) ≠ 9))) hs_2 q539 (Nat.le_of_ble_eq_true rfl) (Nat.le_of_ble_eq_true rfl) dJ14_copyOf_3 ?_
  obtain ⟨r3, σ4, η5, h_6, h⟩ := bn3_e h
  have m_η5 := mofJ14_copyOf_2_cM h_6
  refine a_callSr (rest := []) C0 G E hl m_η5 (kJ14_copyOf_2_cM (l := l) C0.2.2.2.2.2.2.1 G.2.2.2 h_6) (va_cwS 3 C0.2.2.2.2.1 (lw_S q569 q570 q146 q571) rfl rfl rfl hdJ14_copyOf_2_cM ⟨Nat.le_of_ble_eq_true rfl, Nat.le_of_ble_eq_true rfl⟩) rfl (Nat.le_of_ble_eq_true rfl) dJ14_copyOf_6 (a_lec E m_η5 (mofJ14_copyOf_9 h) hN) (fun H locs G E => ?_)
  exact wJ14_copyOf_9 C0 r3 (σ4) (η5) hnm _ h Kr hN _ _ _ _ _ (lv_sub hl [] rfl) G E
theorem mofJ14_copyOf {a0 : Nat} {a1 : Int32} {σ : St} {η : Eta} {o : Nat × St × Eta} (h : fJ14_copyOf a0 a1 σ η = some o) : EX η o.2.2 := mofJ14_copyOf_0 h
theorem kJ14_copyOf {l : Launch} {ad : Nat → Nat} {dc : Nat → ClassId} {D : va_G} {A : Nat → Prop} (hi : ∀ i j, ad i = ad j → i = j) {σ σ' : St} {η η' : Eta} (hA : ∀ k, k ∈ ksOf η → A (ad k)) {a0 : Nat} {a1 : Int32} {r : Nat} (h : fJ14_copyOf a0 a1 σ η = some (r, σ', η')) : aMet l ad dc D A yJ14_copyOf cJ14_copyOf 2 (some (.array (.object "java/lang/Object"))) FrJ14_copyOf LoJ14_copyOf σ η η' [.ref (ad a0), .int a1] (aQr ad dc D A r σ' η') :=
  a_metR (Or.inr ⟨_, rfl⟩) (by decide) rfl hi hA (Nat.le_of_ble_eq_true rfl) (fun p e s m below meth c Q C0 hnm Kr E ls hl G => wJ14_copyOf_0 C0 a0 a1 σ η hnm (r, σ', η') h Kr a_kN _ _ _ _ _ hl G E)
-- J2_grow
abbrev FrJ2_grow : Nat := 3
abbrev LoJ2_grow : Nat := 84
theorem hdJ2_grow : yJ2_grow.cls = RJ2 ∧ yJ2_grow.cls ≠ "java/lang/invoke/MethodHandle" ∧ yJ2_grow.cls ≠ "java/lang/invoke/VarHandle" ∧ (parseMethodDescriptor yJ2_grow.desc).map (fun d => d.parameters.length) = some 1 := by decide +kernel
theorem mofJ2_grow_40 {t0 : Nat} {t1 : Nat} {σ : St} {η : Eta} {o : Nat × St × Eta} (h : fJ2_grow_40 t0 t1 σ η = some o) : EX η o.2.2 := by
  unfold fJ2_grow_40 at h
  obtain ⟨hX, h⟩ := ckX_e h
  obtain ⟨hs_1, h⟩ := ckS_e h
  obtain ⟨σ2, e_σ2⟩ : ∃ z : St, z = pR (σ) t0 1 (some t1) := ⟨_, rfl⟩
  have h := letB_e h e_σ2
  cases h
  exact EX.rf
set_option maxHeartbeats 400000 in
theorem wJ2_grow_40 (C0 : Cx ad dc D RJ2 cJ2_grow 4 p s m args meth c) (t0 : Nat) (t1 : Nat) (σ : St) (η : Eta) (hnm : meth.name = yJ2_grow.name) (o : Nat × St × Eta) (h : fJ2_grow_40 t0 t1 σ η = some o) (Kr : KrAR p l e (RA FrJ2_grow LoJ2_grow N1 Z1) s m args below meth c cJ2_grow Q (GW o.2.2.1 (ksOf o.2.2) ad dc D A s o.2.1) N1 Z1 (ad o.1)) (hN : o.2.2.2.1 ≤ n0 + N1 ∧ o.2.2.2.2 ≤ z0 + Z1) (H : Heap) (locs : List Loc) (ls : Array Slot) (cells slots : Nat) (hl : lv_has ls 4 []) (G : GW η.1 (ksOf η) ad dc D A s σ H locs) (E : EA ad dc A s n0 z0 η cells slots) : W p l e (RA FrJ2_grow LoJ2_grow N1 Z1) s m args below meth c H locs cells slots Q (F0 m 40 ls [.ref (ad t1), .ref (ad t0)]) := by
  have hx := C0.1
  have hb := C0.2.1
  have hcz := a_le E (mofJ2_grow_40 h) hN
  unfold fJ2_grow_40 at h
  obtain ⟨hX, h⟩ := ckX_e h
  refine lv_dup_x1 hx hb dJ2_grow_40 rfl rfl ?_
  obtain ⟨hs_1, h⟩ := ckS_e h
  refine g_putR (x := (some t1)) C0 G in_J2 tyJ2_ok nmJ2 (ci := 24) rfl (ks_mem E.2.2.2.1 (by rw [hs_1]; exact (by decide : (0 : Nat) ≠ 9))) (fl := xDf24) hs_1 1 (by decide) rfl q179 rfl dJ2_grow_41 rfl ⟨rfl, rfl⟩ (fun σ2 H locs e_σ2 G => ?_)
  have h := letB_e h e_σ2
  cases h
  have hce := a_end E hN
  refine W.widen (k := N1) (n := Z1) hce.1 hce.2 ?_
  exact Kr _ _ _ _ dJ2_grow_44 G
theorem mofJ2_grow_0 {a0 : Nat} {a1 : Int32} {σ : St} {η : Eta} {o : Nat × St × Eta} (h : fJ2_grow_0 a0 a1 σ η = some o) : EX η o.2.2 := by
  unfold fJ2_grow_0 at h
  obtain ⟨hX, h⟩ := ckX_e h
  obtain ⟨hs_1, h⟩ := ckS_e h
  obtain ⟨v2, e_v2, h⟩ := ckN_e h
  obtain ⟨n_3, hs_4, h⟩ := ckO_e h
  obtain ⟨x5, e_x5⟩ : ∃ z : Int32, z = Int32.ofNat n_3 := ⟨_, rfl⟩
  have h := letB_e h e_x5
  rcases (Classical.em (0 < x5)) with c6 | c6
  · have h := ite_t h c6
    obtain ⟨r7, h_r7, h⟩ := bn1_e h
    obtain ⟨hs_8, h⟩ := ckS_e h
    obtain ⟨v9, e_v9, h⟩ := ckN_e h
    obtain ⟨r10, σ11, η12, h_13, h⟩ := bn3_e h
    have m_η12 := mofJ14_copyOf h_13
    exact EX.tr (EX.tr EX.rf m_η12) (mofJ2_grow_40 h)
  · have h := ite_f h c6
    obtain ⟨hs_14, h⟩ := ckS_e h
    obtain ⟨v15, e_v15, h⟩ := ckN_e h
    cases h
set_option maxHeartbeats 400000 in
theorem wJ2_grow_0 (C0 : Cx ad dc D RJ2 cJ2_grow 4 p s m args meth c) (a0 : Nat) (a1 : Int32) (σ : St) (η : Eta) (hnm : meth.name = yJ2_grow.name) (o : Nat × St × Eta) (h : fJ2_grow_0 a0 a1 σ η = some o) (Kr : KrAR p l e (RA FrJ2_grow LoJ2_grow N1 Z1) s m args below meth c cJ2_grow Q (GW o.2.2.1 (ksOf o.2.2) ad dc D A s o.2.1) N1 Z1 (ad o.1)) (hN : o.2.2.2.1 ≤ n0 + N1 ∧ o.2.2.2.2 ≤ z0 + Z1) (H : Heap) (locs : List Loc) (ls : Array Slot) (cells slots : Nat) (hl : lv_has ls 4 [(0, .ref (ad a0)), (1, .int a1)]) (G : GW η.1 (ksOf η) ad dc D A s σ H locs) (E : EA ad dc A s n0 z0 η cells slots) : W p l e (RA FrJ2_grow LoJ2_grow N1 Z1) s m args below meth c H locs cells slots Q (F0 m 0 ls []) := by
  have hx := C0.1
  have hb := C0.2.1
  have hcz := a_le E (mofJ2_grow_0 h) hN
  unfold fJ2_grow_0 at h
  obtain ⟨hX, h⟩ := ckX_e h
  refine lv_aload_n hx hb dJ2_grow_0 rfl (lv_at hl 0 rfl) ?_
  obtain ⟨hs_1, h⟩ := ckS_e h
  obtain ⟨v2, e_v2, h⟩ := ckN_e h
  refine g_get C0 G in_J2 (ci := 24) rfl (ks_mem E.2.2.2.1 (by rw [hs_1]; exact (by decide : (0 : Nat) ≠ 9))) (fl := xDf24) hs_1 1 (by decide) rfl q179 dJ2_grow_1 (fv_s e_v2) ?_
  obtain ⟨n_3, hs_4, h⟩ := ckO_e h
  refine g_alenO C0 G (n := n_3) (ks_mem E.2.2.2.1 (by rw [hs_4]; exact (by decide : (2 : Nat) ≠ 9))) hs_4 dJ2_grow_4 ?_
  refine lv_topi (fun x5 e_x5 => ?_)
  have h := letB_e h e_x5
  refine lv_istore_n (lv' := [(2, .int x5), (0, .ref (ad a0)), (1, .int a1)]) hx hb dJ2_grow_5 rfl hl (by decide) rfl (fun ls hl => ?_)
  refine lv_iload_n hx hb dJ2_grow_6 rfl (lv_at hl 0 rfl) ?_
  refine lv_if_gt (tgt := 20) hx hb dJ2_grow_7 (by decide) (fun c6 => ?_) (fun c6 => ?_)
  · have h := ite_t h c6
    refine lv_iload_n hx hb dJ2_grow_20 rfl (lv_at hl 0 rfl) ?_
    refine lv_iload_n hx hb dJ2_grow_21 rfl (lv_at hl 2 rfl) ?_
    refine lv_iload_n hx hb dJ2_grow_22 rfl (lv_at hl 0 rfl) ?_
    refine lv_isub hx hb dJ2_grow_23 ?_
    refine lv_iload_n hx hb dJ2_grow_24 rfl (lv_at hl 0 rfl) ?_
    refine lv_iconst (v := 1) hx hb dJ2_grow_25 (by decide +kernel) ?_
    refine lv_ishr hx hb dJ2_grow_26 ?_
    obtain ⟨r7, h_r7, h⟩ := bn1_e h
    refine g_callSi (rest := []) C0 G hl (kJ12_newLength (l := l) C0.2.2.2.2.2.2.1 G.2.2.1 G.2.2.2 hX h_r7) (va_cwS 3 C0.2.2.2.2.1 (lw_S q584 q585 q144 q586) rfl rfl rfl hdJ12_newLength ⟨Nat.le_of_ble_eq_true rfl, Nat.le_of_ble_eq_true rfl⟩) rfl (Nat.le_of_ble_eq_true rfl) dJ2_grow_27 hcz (fun H locs G => ?_)
    refine lv_istore_n (lv' := [(3, .int r7), (2, .int x5), (0, .ref (ad a0)), (1, .int a1)]) hx hb dJ2_grow_30 rfl hl (by decide) rfl (fun ls hl => ?_)
    refine lv_aload_n hx hb dJ2_grow_31 rfl (lv_at hl 2 rfl) ?_
    refine lv_aload_n hx hb dJ2_grow_32 rfl (lv_at hl 2 rfl) ?_
    obtain ⟨hs_8, h⟩ := ckS_e h
    obtain ⟨v9, e_v9, h⟩ := ckN_e h
    refine g_get C0 G in_J2 (ci := 24) rfl (ks_mem E.2.2.2.1 (by rw [hs_8]; exact (by decide : (0 : Nat) ≠ 9))) (fl := xDf24) hs_8 1 (by decide) rfl q179 dJ2_grow_33 (fv_s e_v9) ?_
    refine lv_iload_n hx hb dJ2_grow_36 rfl (lv_at hl 0 rfl) ?_
    obtain ⟨r10, σ11, η12, h_13, h⟩ := bn3_e h
    have m_η12 := mofJ14_copyOf h_13
    refine a_callSr (rest := [.ref (ad a0)]) C0 G E hl m_η12 (kJ14_copyOf (l := l) C0.2.2.2.2.2.2.1 G.2.2.2 h_13) (va_cwS 2 C0.2.2.2.2.1 (lw_S q536 q537 q146 q538) rfl rfl rfl hdJ14_copyOf ⟨Nat.le_of_ble_eq_true rfl, Nat.le_of_ble_eq_true rfl⟩) rfl (Nat.le_of_ble_eq_true rfl) dJ2_grow_37 (a_lec E m_η12 (mofJ2_grow_40 h) hN) (fun H locs G E => ?_)
    exact wJ2_grow_40 C0 a0 r10 (σ11) (η12) hnm _ h Kr hN _ _ _ _ _ (lv_sub hl [] rfl) G E
  · have h := ite_f h c6
    refine lv_aload_n hx hb dJ2_grow_10 rfl (lv_at hl 1 rfl) ?_
    obtain ⟨hs_14, h⟩ := ckS_e h
    obtain ⟨v15, e_v15, h⟩ := ckN_e h
    refine g_get C0 G in_J2 (ci := 24) rfl (ks_mem E.2.2.2.1 (by rw [hs_14]; exact (by decide : (0 : Nat) ≠ 9))) (fl := xDf24) hs_14 1 (by decide) rfl q179 dJ2_grow_11 (fv_s e_v15) ?_
    cases h
theorem mofJ2_grow {a0 : Nat} {a1 : Int32} {σ : St} {η : Eta} {o : Nat × St × Eta} (h : fJ2_grow a0 a1 σ η = some o) : EX η o.2.2 := mofJ2_grow_0 h
theorem kJ2_grow {l : Launch} {ad : Nat → Nat} {dc : Nat → ClassId} {D : va_G} {A : Nat → Prop} (hi : ∀ i j, ad i = ad j → i = j) {σ σ' : St} {η η' : Eta} (hA : ∀ k, k ∈ ksOf η → A (ad k)) {a0 : Nat} {a1 : Int32} {r : Nat} (h : fJ2_grow a0 a1 σ η = some (r, σ', η')) : aMet l ad dc D A yJ2_grow cJ2_grow 4 (some (.array (.object "java/lang/Object"))) FrJ2_grow LoJ2_grow σ η η' [.ref (ad a0), .int a1] (aQr ad dc D A r σ' η') :=
  a_metR (Or.inr ⟨_, rfl⟩) (by decide) rfl hi hA (Nat.le_of_ble_eq_true rfl) (fun p e s m below meth c Q C0 hnm Kr E ls hl G => wJ2_grow_0 C0 a0 a1 σ η hnm (r, σ', η') h Kr a_kN _ _ _ _ _ hl G E)
-- J2_grow_2
abbrev FrJ2_grow_2 : Nat := 4
abbrev LoJ2_grow_2 : Nat := 107
theorem hdJ2_grow_2 : yJ2_grow_2.cls = RJ2 ∧ yJ2_grow_2.cls ≠ "java/lang/invoke/MethodHandle" ∧ yJ2_grow_2.cls ≠ "java/lang/invoke/VarHandle" ∧ (parseMethodDescriptor yJ2_grow_2.desc).map (fun d => d.parameters.length) = some 0 := by decide +kernel
theorem mofJ2_grow_2_10 {t0 : Nat} {σ : St} {η : Eta} {o : Nat × St × Eta} (h : fJ2_grow_2_10 t0 σ η = some o) : EX η o.2.2 := by
  unfold fJ2_grow_2_10 at h
  obtain ⟨hX, h⟩ := ckX_e h
  cases h
  exact EX.rf
set_option maxHeartbeats 400000 in
theorem wJ2_grow_2_10 (C0 : Cx ad dc D RJ2 cJ2_grow_2 1 p s m args meth c) (t0 : Nat) (σ : St) (η : Eta) (hnm : meth.name = yJ2_grow_2.name) (o : Nat × St × Eta) (h : fJ2_grow_2_10 t0 σ η = some o) (Kr : KrAR p l e (RA FrJ2_grow_2 LoJ2_grow_2 N1 Z1) s m args below meth c cJ2_grow_2 Q (GW o.2.2.1 (ksOf o.2.2) ad dc D A s o.2.1) N1 Z1 (ad o.1)) (hN : o.2.2.2.1 ≤ n0 + N1 ∧ o.2.2.2.2 ≤ z0 + Z1) (H : Heap) (locs : List Loc) (ls : Array Slot) (cells slots : Nat) (hl : lv_has ls 1 []) (G : GW η.1 (ksOf η) ad dc D A s σ H locs) (E : EA ad dc A s n0 z0 η cells slots) : W p l e (RA FrJ2_grow_2 LoJ2_grow_2 N1 Z1) s m args below meth c H locs cells slots Q (F0 m 10 ls [.ref (ad t0)]) := by
  have hx := C0.1
  have hb := C0.2.1
  have hcz := a_le E (mofJ2_grow_2_10 h) hN
  unfold fJ2_grow_2_10 at h
  obtain ⟨hX, h⟩ := ckX_e h
  cases h
  have hce := a_end E hN
  refine W.widen (k := N1) (n := Z1) hce.1 hce.2 ?_
  exact Kr _ _ _ _ dJ2_grow_2_10 G
theorem mofJ2_grow_2_0 {a0 : Nat} {σ : St} {η : Eta} {o : Nat × St × Eta} (h : fJ2_grow_2_0 a0 σ η = some o) : EX η o.2.2 := by
  unfold fJ2_grow_2_0 at h
  obtain ⟨hX, h⟩ := ckX_e h
  obtain ⟨hs_1, h⟩ := ckS_e h
  obtain ⟨hs_rv, h⟩ := ckS_e h
  obtain ⟨r2, σ3, η4, h_5, h⟩ := bn3_e h
  have m_η4 := mofJ2_grow h_5
  exact EX.tr (EX.tr EX.rf m_η4) (mofJ2_grow_2_10 h)
set_option maxHeartbeats 400000 in
theorem wJ2_grow_2_0 (C0 : Cx ad dc D RJ2 cJ2_grow_2 1 p s m args meth c) (a0 : Nat) (σ : St) (η : Eta) (hnm : meth.name = yJ2_grow_2.name) (o : Nat × St × Eta) (h : fJ2_grow_2_0 a0 σ η = some o) (Kr : KrAR p l e (RA FrJ2_grow_2 LoJ2_grow_2 N1 Z1) s m args below meth c cJ2_grow_2 Q (GW o.2.2.1 (ksOf o.2.2) ad dc D A s o.2.1) N1 Z1 (ad o.1)) (hN : o.2.2.2.1 ≤ n0 + N1 ∧ o.2.2.2.2 ≤ z0 + Z1) (H : Heap) (locs : List Loc) (ls : Array Slot) (cells slots : Nat) (hl : lv_has ls 1 [(0, .ref (ad a0))]) (G : GW η.1 (ksOf η) ad dc D A s σ H locs) (E : EA ad dc A s n0 z0 η cells slots) : W p l e (RA FrJ2_grow_2 LoJ2_grow_2 N1 Z1) s m args below meth c H locs cells slots Q (F0 m 0 ls []) := by
  have hx := C0.1
  have hb := C0.2.1
  have hcz := a_le E (mofJ2_grow_2_0 h) hN
  unfold fJ2_grow_2_0 at h
  obtain ⟨hX, h⟩ := ckX_e h
  refine lv_aload_n hx hb dJ2_grow_2_0 rfl (lv_at hl 0 rfl) ?_
  refine lv_aload_n hx hb dJ2_grow_2_1 rfl (lv_at hl 0 rfl) ?_
  obtain ⟨hs_1, h⟩ := ckS_e h
  refine g_get C0 G in_J2 (ci := 24) rfl (ks_mem E.2.2.2.1 (by rw [hs_1]; exact (by decide : (0 : Nat) ≠ 9))) (fl := xDf24) hs_1 2 (by decide) rfl q180 dJ2_grow_2_2 rfl ?_
  refine lv_iconst (v := 1) hx hb dJ2_grow_2_5 (by decide +kernel) ?_
  refine lv_iadd hx hb dJ2_grow_2_6 ?_
  obtain ⟨hs_rv, h⟩ := ckS_e h
  obtain ⟨r2, σ3, η4, h_5, h⟩ := bn3_e h
  have m_η4 := mofJ2_grow h_5
  refine a_callVr (rest := []) C0 G E hl (ci := 24) rfl (ks_mem E.2.2.2.1 (by rw [hs_rv]; exact (by decide : (0 : Nat) ≠ 9))) (fl := xDf24) hs_rv m_η4 (kJ2_grow (l := l) C0.2.2.2.2.2.2.1 G.2.2.2 h_5) (cwV 1 C0.2.2.2.2.1 (lw_V q578 q580 qs1 q109 q581) rfl rfl rfl hdJ2_grow ⟨Nat.le_of_ble_eq_true rfl, Nat.le_of_ble_eq_true rfl⟩) rfl (Nat.le_of_ble_eq_true rfl) dJ2_grow_2_7 (a_lec E m_η4 (mofJ2_grow_2_10 h) hN) (fun H locs G E => ?_)
  exact wJ2_grow_2_10 C0 r2 (σ3) (η4) hnm _ h Kr hN _ _ _ _ _ (lv_sub hl [] rfl) G E
theorem mofJ2_grow_2 {a0 : Nat} {σ : St} {η : Eta} {o : Nat × St × Eta} (h : fJ2_grow_2 a0 σ η = some o) : EX η o.2.2 := mofJ2_grow_2_0 h
theorem kJ2_grow_2 {l : Launch} {ad : Nat → Nat} {dc : Nat → ClassId} {D : va_G} {A : Nat → Prop} (hi : ∀ i j, ad i = ad j → i = j) {σ σ' : St} {η η' : Eta} (hA : ∀ k, k ∈ ksOf η → A (ad k)) {a0 : Nat} {r : Nat} (h : fJ2_grow_2 a0 σ η = some (r, σ', η')) : aMet l ad dc D A yJ2_grow_2 cJ2_grow_2 1 (some (.array (.object "java/lang/Object"))) FrJ2_grow_2 LoJ2_grow_2 σ η η' [.ref (ad a0)] (aQr ad dc D A r σ' η') :=
  a_metR (Or.inr ⟨_, rfl⟩) (by decide) rfl hi hA (Nat.le_of_ble_eq_true rfl) (fun p e s m below meth c Q C0 hnm Kr E ls hl G => wJ2_grow_2_0 C0 a0 σ η hnm (r, σ', η') h Kr a_kN _ _ _ _ _ hl G E)
-- J2_add_2
abbrev FrJ2_add_2 : Nat := 5
abbrev LoJ2_add_2 : Nat := 127
theorem hdJ2_add_2 : yJ2_add_2.cls = RJ2 ∧ yJ2_add_2.cls ≠ "java/lang/invoke/MethodHandle" ∧ yJ2_add_2.cls ≠ "java/lang/invoke/VarHandle" ∧ (parseMethodDescriptor yJ2_add_2.desc).map (fun d => d.parameters.length) = some 3 := by decide +kernel
theorem mofJ2_add_2_11 {a0 : Nat} {a1 : Nat} {a2 : Nat} {a3 : Int32} {σ : St} {η : Eta} {o : St × Eta} (h : fJ2_add_2_11 a0 a1 a2 a3 σ η = some o) : EX η o.2 := by
  unfold fJ2_add_2_11 at h
  obtain ⟨hX, h⟩ := ckX_e h
  obtain ⟨n_1, hs_2, h⟩ := ckO_e h
  obtain ⟨b_3, h⟩ := ckB_e h
  obtain ⟨ho_, h⟩ := ckP_e h
  obtain ⟨σ4, e_σ4⟩ : ∃ z : St, z = pR (σ) a2 a3.toNatClampNeg (some a1) := ⟨_, rfl⟩
  have h := letB_e h e_σ4
  obtain ⟨hs_5, h⟩ := ckS_e h
  obtain ⟨σ6, e_σ6⟩ : ∃ z : St, z = pI (σ4) a0 2 (a3 + 1) := ⟨_, rfl⟩
  have h := letB_e h e_σ6
  cases h
  exact EX.rf
set_option maxHeartbeats 400000 in
theorem wJ2_add_2_11 (C0 : Cx ad dc D RJ2 cJ2_add_2 4 p s m args meth c) (a0 : Nat) (a1 : Nat) (a2 : Nat) (a3 : Int32) (σ : St) (η : Eta) (hnm : meth.name = yJ2_add_2.name) (o : St × Eta) (h : fJ2_add_2_11 a0 a1 a2 a3 σ η = some o) (Kr : KrAV p l e (RA FrJ2_add_2 LoJ2_add_2 N1 Z1) s m args below meth c cJ2_add_2 Q (GW o.2.1 (ksOf o.2) ad dc D A s o.1) N1 Z1) (hN : o.2.2.1 ≤ n0 + N1 ∧ o.2.2.2 ≤ z0 + Z1) (H : Heap) (locs : List Loc) (ls : Array Slot) (cells slots : Nat) (hl : lv_has ls 4 [(0, .ref (ad a0)), (1, .ref (ad a1)), (2, .ref (ad a2)), (3, .int a3)]) (G : GW η.1 (ksOf η) ad dc D A s σ H locs) (E : EA ad dc A s n0 z0 η cells slots) : W p l e (RA FrJ2_add_2 LoJ2_add_2 N1 Z1) s m args below meth c H locs cells slots Q (F0 m 11 ls []) := by
  have hx := C0.1
  have hb := C0.2.1
  have hcz := a_le E (mofJ2_add_2_11 h) hN
  unfold fJ2_add_2_11 at h
  obtain ⟨hX, h⟩ := ckX_e h
  refine lv_aload_n hx hb dJ2_add_2_11 rfl (lv_at hl 2 rfl) ?_
  refine lv_iload_n hx hb dJ2_add_2_12 rfl (lv_at hl 3 rfl) ?_
  refine lv_aload_n hx hb dJ2_add_2_13 rfl (lv_at hl 1 rfl) ?_
  obtain ⟨n_1, hs_2, h⟩ := ckO_e h
  obtain ⟨b_3, h⟩ := ckB_e h
  obtain ⟨ho_, h⟩ := ckP_e h
  refine g_aastX C0 G (n := n_1) (ks_mem E.2.2.2.1 (by rw [hs_2]; exact (by decide : (2 : Nat) ≠ 9))) hs_2 b_3 (ks_mem E.2.2.2.1 (by rw [ho_.1]; exact (by decide : (0 : Nat) ≠ 9))) ho_ dJ2_add_2_14 (fun σ4 H locs e_σ4 G => ?_)
  have h := letB_e h e_σ4
  refine lv_aload_n hx hb dJ2_add_2_15 rfl (lv_at hl 0 rfl) ?_
  refine lv_iload_n hx hb dJ2_add_2_16 rfl (lv_at hl 3 rfl) ?_
  refine lv_iconst (v := 1) hx hb dJ2_add_2_17 (by decide +kernel) ?_
  refine lv_iadd hx hb dJ2_add_2_18 ?_
  obtain ⟨hs_5, h⟩ := ckS_e h
  refine g_putI C0 G in_J2 tyJ2_ok nmJ2 (ci := 24) rfl (ks_mem E.2.2.2.1 (by rw [hs_5]; exact (by decide : (0 : Nat) ≠ 9))) (fl := xDf24) hs_5 2 (by decide) rfl q180 rfl dJ2_add_2_19 ⟨rfl, rfl⟩ (fun σ6 H locs e_σ6 G => ?_)
  have h := letB_e h e_σ6
  cases h
  have hce := a_end E hN
  refine W.widen (k := N1) (n := Z1) hce.1 hce.2 ?_
  exact Kr _ _ _ _ dJ2_add_2_22 G
theorem mofJ2_add_2_10 {a0 : Nat} {a1 : Nat} {a3 : Int32} {t0 : Nat} {σ : St} {η : Eta} {o : St × Eta} (h : fJ2_add_2_10 a0 a1 a3 t0 σ η = some o) : EX η o.2 := by
  unfold fJ2_add_2_10 at h
  obtain ⟨hX, h⟩ := ckX_e h
  exact EX.tr EX.rf (mofJ2_add_2_11 h)
set_option maxHeartbeats 400000 in
theorem wJ2_add_2_10 (C0 : Cx ad dc D RJ2 cJ2_add_2 4 p s m args meth c) (a0 : Nat) (a1 : Nat) (a3 : Int32) (t0 : Nat) (σ : St) (η : Eta) (hnm : meth.name = yJ2_add_2.name) (o : St × Eta) (h : fJ2_add_2_10 a0 a1 a3 t0 σ η = some o) (Kr : KrAV p l e (RA FrJ2_add_2 LoJ2_add_2 N1 Z1) s m args below meth c cJ2_add_2 Q (GW o.2.1 (ksOf o.2) ad dc D A s o.1) N1 Z1) (hN : o.2.2.1 ≤ n0 + N1 ∧ o.2.2.2 ≤ z0 + Z1) (H : Heap) (locs : List Loc) (ls : Array Slot) (cells slots : Nat) (hl : lv_has ls 4 [(0, .ref (ad a0)), (1, .ref (ad a1)), (3, .int a3)]) (G : GW η.1 (ksOf η) ad dc D A s σ H locs) (E : EA ad dc A s n0 z0 η cells slots) : W p l e (RA FrJ2_add_2 LoJ2_add_2 N1 Z1) s m args below meth c H locs cells slots Q (F0 m 10 ls [.ref (ad t0)]) := by
  have hx := C0.1
  have hb := C0.2.1
  have hcz := a_le E (mofJ2_add_2_10 h) hN
  unfold fJ2_add_2_10 at h
  obtain ⟨hX, h⟩ := ckX_e h
  refine lv_astore_n (lv' := [(2, .ref (ad t0)), (0, .ref (ad a0)), (1, .ref (ad a1)), (3, .int a3)]) hx hb dJ2_add_2_10 rfl hl (by decide) rfl (fun ls hl => ?_)
  exact wJ2_add_2_11 C0 a0 a1 t0 a3 (σ) (η) hnm _ h Kr hN _ _ _ _ _ (lv_sub hl [1, 2, 0, 3] rfl) G E
theorem mofJ2_add_2_0 {a0 : Nat} {a1 : Nat} {a2 : Nat} {a3 : Int32} {σ : St} {η : Eta} {o : St × Eta} (h : fJ2_add_2_0 a0 a1 a2 a3 σ η = some o) : EX η o.2 := by
  unfold fJ2_add_2_0 at h
  obtain ⟨hX, h⟩ := ckX_e h
  obtain ⟨n_1, hs_2, h⟩ := ckO_e h
  rcases (Classical.em (a3 = (Int32.ofNat n_1))).symm with c3 | c3
  · have h := ite_f h c3
    exact EX.tr EX.rf (mofJ2_add_2_11 h)
  · have h := ite_t h c3
    obtain ⟨hs_rv, h⟩ := ckS_e h
    obtain ⟨r4, σ5, η6, h_7, h⟩ := bn3_e h
    have m_η6 := mofJ2_grow_2 h_7
    exact EX.tr (EX.tr EX.rf m_η6) (mofJ2_add_2_10 h)
set_option maxHeartbeats 400000 in
theorem wJ2_add_2_0 (C0 : Cx ad dc D RJ2 cJ2_add_2 4 p s m args meth c) (a0 : Nat) (a1 : Nat) (a2 : Nat) (a3 : Int32) (σ : St) (η : Eta) (hnm : meth.name = yJ2_add_2.name) (o : St × Eta) (h : fJ2_add_2_0 a0 a1 a2 a3 σ η = some o) (Kr : KrAV p l e (RA FrJ2_add_2 LoJ2_add_2 N1 Z1) s m args below meth c cJ2_add_2 Q (GW o.2.1 (ksOf o.2) ad dc D A s o.1) N1 Z1) (hN : o.2.2.1 ≤ n0 + N1 ∧ o.2.2.2 ≤ z0 + Z1) (H : Heap) (locs : List Loc) (ls : Array Slot) (cells slots : Nat) (hl : lv_has ls 4 [(0, .ref (ad a0)), (1, .ref (ad a1)), (2, .ref (ad a2)), (3, .int a3)]) (G : GW η.1 (ksOf η) ad dc D A s σ H locs) (E : EA ad dc A s n0 z0 η cells slots) : W p l e (RA FrJ2_add_2 LoJ2_add_2 N1 Z1) s m args below meth c H locs cells slots Q (F0 m 0 ls []) := by
  have hx := C0.1
  have hb := C0.2.1
  have hcz := a_le E (mofJ2_add_2_0 h) hN
  unfold fJ2_add_2_0 at h
  obtain ⟨hX, h⟩ := ckX_e h
  refine lv_iload_n hx hb dJ2_add_2_0 rfl (lv_at hl 3 rfl) ?_
  refine lv_aload_n hx hb dJ2_add_2_1 rfl (lv_at hl 2 rfl) ?_
  obtain ⟨n_1, hs_2, h⟩ := ckO_e h
  refine g_alenO C0 G (n := n_1) (ks_mem E.2.2.2.1 (by rw [hs_2]; exact (by decide : (2 : Nat) ≠ 9))) hs_2 dJ2_add_2_2 ?_
  refine lv_icmp_ne (tgt := 11) hx hb dJ2_add_2_3 (by decide) (fun c3 => ?_) (fun c3 => ?_)
  · have h := ite_f h c3
    exact wJ2_add_2_11 C0 a0 a1 a2 a3 (σ) (η) hnm _ h Kr hN _ _ _ _ _ hl G E
  · have h := ite_t h c3
    refine lv_aload_n hx hb dJ2_add_2_6 rfl (lv_at hl 0 rfl) ?_
    obtain ⟨hs_rv, h⟩ := ckS_e h
    obtain ⟨r4, σ5, η6, h_7, h⟩ := bn3_e h
    have m_η6 := mofJ2_grow_2 h_7
    refine a_callVr (rest := []) C0 G E hl (ci := 24) rfl (ks_mem E.2.2.2.1 (by rw [hs_rv]; exact (by decide : (0 : Nat) ≠ 9))) (fl := xDf24) hs_rv m_η6 (kJ2_grow_2 (l := l) C0.2.2.2.2.2.2.1 G.2.2.2 h_7) (cwV 0 C0.2.2.2.2.1 (lw_V q1140 q1142 qs28 q109 q1143) rfl rfl rfl hdJ2_grow_2 ⟨Nat.le_of_ble_eq_true rfl, Nat.le_of_ble_eq_true rfl⟩) rfl (Nat.le_of_ble_eq_true rfl) dJ2_add_2_7 (a_lec E m_η6 (mofJ2_add_2_10 h) hN) (fun H locs G E => ?_)
    exact wJ2_add_2_10 C0 a0 a1 a3 r4 (σ5) (η6) hnm _ h Kr hN _ _ _ _ _ (lv_sub hl [0, 1, 3] rfl) G E
theorem mofJ2_add_2 {a0 : Nat} {a1 : Nat} {a2 : Nat} {a3 : Int32} {σ : St} {η : Eta} {o : St × Eta} (h : fJ2_add_2 a0 a1 a2 a3 σ η = some o) : EX η o.2 := mofJ2_add_2_0 h
theorem kJ2_add_2 {l : Launch} {ad : Nat → Nat} {dc : Nat → ClassId} {D : va_G} {A : Nat → Prop} (hi : ∀ i j, ad i = ad j → i = j) {σ σ' : St} {η η' : Eta} (hA : ∀ k, k ∈ ksOf η → A (ad k)) {a0 : Nat} {a1 : Nat} {a2 : Nat} {a3 : Int32}  (h : fJ2_add_2 a0 a1 a2 a3 σ η = some (σ', η')) : aMet l ad dc D A yJ2_add_2 cJ2_add_2 4 none FrJ2_add_2 LoJ2_add_2 σ η η' [.ref (ad a0), .ref (ad a1), .ref (ad a2), .int a3] (aQv ad dc D A σ' η') :=
  a_metV (by decide) rfl hi hA (Nat.le_of_ble_eq_true rfl) (fun p e s m below meth c Q C0 hnm Kr E ls hl G => wJ2_add_2_0 C0 a0 a1 a2 a3 σ η hnm (σ', η') h Kr a_kN _ _ _ _ _ hl G E)
-- J2_add
abbrev FrJ2_add : Nat := 6
abbrev LoJ2_add : Nat := 150
theorem hdJ2_add : yJ2_add.cls = RJ2 ∧ yJ2_add.cls ≠ "java/lang/invoke/MethodHandle" ∧ yJ2_add.cls ≠ "java/lang/invoke/VarHandle" ∧ (parseMethodDescriptor yJ2_add.desc).map (fun d => d.parameters.length) = some 1 := by decide +kernel
theorem mofJ2_add_23 {σ : St} {η : Eta} {o : Int32 × St × Eta} (h : fJ2_add_23 σ η = some o) : EX η o.2.2 := by
  unfold fJ2_add_23 at h
  obtain ⟨hX, h⟩ := ckX_e h
  cases h
  exact EX.rf
set_option maxHeartbeats 400000 in
theorem wJ2_add_23 (C0 : Cx ad dc D RJ2 cJ2_add 2 p s m args meth c)  (σ : St) (η : Eta) (hnm : meth.name = yJ2_add.name) (o : Int32 × St × Eta) (h : fJ2_add_23 σ η = some o) (Kr : KrAZ p l e (RA FrJ2_add LoJ2_add N1 Z1) s m args below meth c cJ2_add Q (GW o.2.2.1 (ksOf o.2.2) ad dc D A s o.2.1) N1 Z1 o.1) (hN : o.2.2.2.1 ≤ n0 + N1 ∧ o.2.2.2.2 ≤ z0 + Z1) (H : Heap) (locs : List Loc) (ls : Array Slot) (cells slots : Nat) (hl : lv_has ls 2 []) (G : GW η.1 (ksOf η) ad dc D A s σ H locs) (E : EA ad dc A s n0 z0 η cells slots) : W p l e (RA FrJ2_add LoJ2_add N1 Z1) s m args below meth c H locs cells slots Q (F0 m 23 ls []) := by
  have hx := C0.1
  have hb := C0.2.1
  have hcz := a_le E (mofJ2_add_23 h) hN
  unfold fJ2_add_23 at h
  obtain ⟨hX, h⟩ := ckX_e h
  refine lv_iconst (v := 1) hx hb dJ2_add_23 (by decide +kernel) ?_
  cases h
  have hce := a_end E hN
  refine W.widen (k := N1) (n := Z1) hce.1 hce.2 ?_
  exact Kr _ _ _ _ dJ2_add_24 (zz_nar (y := 1) (by decide)).1 G
theorem mofJ2_add_0 {a0 : Nat} {a1 : Nat} {σ : St} {η : Eta} {o : Int32 × St × Eta} (h : fJ2_add_0 a0 a1 σ η = some o) : EX η o.2.2 := by
  unfold fJ2_add_0 at h
  obtain ⟨hX, h⟩ := ckX_e h
  obtain ⟨hs_1, h⟩ := ckS_e h
  obtain ⟨hs_2, h⟩ := ckS_e h
  obtain ⟨σ3, e_σ3⟩ : ∃ z : St, z = pI (σ) a0 0 ((gI σ a0 0) + 1) := ⟨_, rfl⟩
  have h := letB_e h e_σ3
  obtain ⟨hs_4, h⟩ := ckS_e h
  obtain ⟨v5, e_v5, h⟩ := ckN_e h
  obtain ⟨hs_6, h⟩ := ckS_e h
  obtain ⟨hs_rv, h⟩ := ckS_e h
  obtain ⟨σ8, η9, h_10, h⟩ := bn2_e h
  have m_η9 := mofJ2_add_2 h_10
  exact EX.tr (EX.tr EX.rf m_η9) (mofJ2_add_23 h)
set_option maxHeartbeats 400000 in
theorem wJ2_add_0 (C0 : Cx ad dc D RJ2 cJ2_add 2 p s m args meth c) (a0 : Nat) (a1 : Nat) (σ : St) (η : Eta) (hnm : meth.name = yJ2_add.name) (o : Int32 × St × Eta) (h : fJ2_add_0 a0 a1 σ η = some o) (Kr : KrAZ p l e (RA FrJ2_add LoJ2_add N1 Z1) s m args below meth c cJ2_add Q (GW o.2.2.1 (ksOf o.2.2) ad dc D A s o.2.1) N1 Z1 o.1) (hN : o.2.2.2.1 ≤ n0 + N1 ∧ o.2.2.2.2 ≤ z0 + Z1) (H : Heap) (locs : List Loc) (ls : Array Slot) (cells slots : Nat) (hl : lv_has ls 2 [(0, .ref (ad a0)), (1, .ref (ad a1))]) (G : GW η.1 (ksOf η) ad dc D A s σ H locs) (E : EA ad dc A s n0 z0 η cells slots) : W p l e (RA FrJ2_add LoJ2_add N1 Z1) s m args below meth c H locs cells slots Q (F0 m 0 ls []) := by
  have hx := C0.1
  have hb := C0.2.1
  have hcz := a_le E (mofJ2_add_0 h) hN
  unfold fJ2_add_0 at h
  obtain ⟨hX, h⟩ := ckX_e h
  refine lv_aload_n hx hb dJ2_add_0 rfl (lv_at hl 0 rfl) ?_
  refine lv_dup hx hb dJ2_add_1 rfl ?_
  obtain ⟨hs_1, h⟩ := ckS_e h
  refine g_getF C0 G in_J2 (ci := 24) rfl (ks_mem E.2.2.2.1 (by rw [hs_1]; exact (by decide : (0 : Nat) ≠ 9))) (fl := xDf24) hs_1 0 (by decide) rfl q182 q183 dJ2_add_2 rfl ?_
  refine lv_iconst (v := 1) hx hb dJ2_add_5 (by decide +kernel) ?_
  refine lv_iadd hx hb dJ2_add_6 ?_
  obtain ⟨hs_2, h⟩ := ckS_e h
  refine g_putSI C0 G in_J2 tyJ2_ok nmJ2 (ci := 24) rfl (ks_mem E.2.2.2.1 (by rw [hs_2]; exact (by decide : (0 : Nat) ≠ 9))) (fl := xDf24) hs_2 0 (by decide) rfl q182 q183 rfl dJ2_add_7 ⟨rfl, rfl⟩ (fun σ3 H locs e_σ3 G => ?_)
  have h := letB_e h e_σ3
  refine lv_aload_n hx hb dJ2_add_10 rfl (lv_at hl 0 rfl) ?_
  refine lv_aload_n hx hb dJ2_add_11 rfl (lv_at hl 1 rfl) ?_
  refine lv_aload_n hx hb dJ2_add_12 rfl (lv_at hl 0 rfl) ?_
  obtain ⟨hs_4, h⟩ := ckS_e h
  obtain ⟨v5, e_v5, h⟩ := ckN_e h
  refine g_get C0 G in_J2 (ci := 24) rfl (ks_mem E.2.2.2.1 (by rw [hs_4]; exact (by decide : (0 : Nat) ≠ 9))) (fl := xDf24) hs_4 1 (by decide) rfl q179 dJ2_add_13 (fv_s e_v5) ?_
  refine lv_aload_n hx hb dJ2_add_16 rfl (lv_at hl 0 rfl) ?_
  obtain ⟨hs_6, h⟩ := ckS_e h
  refine g_get C0 G in_J2 (ci := 24) rfl (ks_mem E.2.2.2.1 (by rw [hs_6]; exact (by decide : (0 : Nat) ≠ 9))) (fl := xDf24) hs_6 2 (by decide) rfl q180 dJ2_add_17 rfl ?_
  obtain ⟨hs_rv, h⟩ := ckS_e h
  obtain ⟨σ8, η9, h_10, h⟩ := bn2_e h
  have m_η9 := mofJ2_add_2 h_10
  refine a_callVv (rest := []) C0 G E hl (ci := 24) rfl (ks_mem E.2.2.2.1 (by rw [hs_rv]; exact (by decide : (0 : Nat) ≠ 9))) (fl := xDf24) hs_rv m_η9 (kJ2_add_2 (l := l) C0.2.2.2.2.2.2.1 G.2.2.2 h_10) (cwV 3 C0.2.2.2.2.1 (lw_V q1136 q1138 qs27 q109 q1139) rfl rfl rfl hdJ2_add_2 ⟨Nat.le_of_ble_eq_true rfl, Nat.le_of_ble_eq_true rfl⟩) rfl (Nat.le_of_ble_eq_true rfl) dJ2_add_20 (a_lec E m_η9 (mofJ2_add_23 h) hN) (fun H locs G E => ?_)
  exact wJ2_add_23 C0 (σ8) (η9) hnm _ h Kr hN _ _ _ _ _ (lv_sub hl [] rfl) G E
theorem mofJ2_add {a0 : Nat} {a1 : Nat} {σ : St} {η : Eta} {o : Int32 × St × Eta} (h : fJ2_add a0 a1 σ η = some o) : EX η o.2.2 := mofJ2_add_0 h
theorem kJ2_add {l : Launch} {ad : Nat → Nat} {dc : Nat → ClassId} {D : va_G} {A : Nat → Prop} (hi : ∀ i j, ad i = ad j → i = j) {σ σ' : St} {η η' : Eta} (hA : ∀ k, k ∈ ksOf η → A (ad k)) {a0 : Nat} {a1 : Nat} {r : Int32} (h : fJ2_add a0 a1 σ η = some (r, σ', η')) : aMet l ad dc D A yJ2_add cJ2_add 2 (some .boolean) FrJ2_add LoJ2_add σ η η' [.ref (ad a0), .ref (ad a1)] (aQi ad dc D A r σ' η') :=
  a_metZ (by decide) rfl hi hA (Nat.le_of_ble_eq_true rfl) (fun p e s m below meth c Q C0 hnm Kr E ls hl G => wJ2_add_0 C0 a0 a1 σ η hnm (r, σ', η') h Kr a_kN _ _ _ _ _ hl G E)
-- J2_toArray
abbrev FrJ2_toArray : Nat := 3
abbrev LoJ2_toArray : Nat := 84
theorem hdJ2_toArray : yJ2_toArray.cls = RJ2 ∧ yJ2_toArray.cls ≠ "java/lang/invoke/MethodHandle" ∧ yJ2_toArray.cls ≠ "java/lang/invoke/VarHandle" ∧ (parseMethodDescriptor yJ2_toArray.desc).map (fun d => d.parameters.length) = some 0 := by decide +kernel
theorem mofJ2_toArray_11 {t0 : Nat} {σ : St} {η : Eta} {o : Nat × St × Eta} (h : fJ2_toArray_11 t0 σ η = some o) : EX η o.2.2 := by
  unfold fJ2_toArray_11 at h
  obtain ⟨hX, h⟩ := ckX_e h
  cases h
  exact EX.rf
set_option maxHeartbeats 400000 in
theorem wJ2_toArray_11 (C0 : Cx ad dc D RJ2 cJ2_toArray 1 p s m args meth c) (t0 : Nat) (σ : St) (η : Eta) (hnm : meth.name = yJ2_toArray.name) (o : Nat × St × Eta) (h : fJ2_toArray_11 t0 σ η = some o) (Kr : KrAR p l e (RA FrJ2_toArray LoJ2_toArray N1 Z1) s m args below meth c cJ2_toArray Q (GW o.2.2.1 (ksOf o.2.2) ad dc D A s o.2.1) N1 Z1 (ad o.1)) (hN : o.2.2.2.1 ≤ n0 + N1 ∧ o.2.2.2.2 ≤ z0 + Z1) (H : Heap) (locs : List Loc) (ls : Array Slot) (cells slots : Nat) (hl : lv_has ls 1 []) (G : GW η.1 (ksOf η) ad dc D A s σ H locs) (E : EA ad dc A s n0 z0 η cells slots) : W p l e (RA FrJ2_toArray LoJ2_toArray N1 Z1) s m args below meth c H locs cells slots Q (F0 m 11 ls [.ref (ad t0)]) := by
  have hx := C0.1
  have hb := C0.2.1
  have hcz := a_le E (mofJ2_toArray_11 h) hN
  unfold fJ2_toArray_11 at h
  obtain ⟨hX, h⟩ := ckX_e h
  cases h
  have hce := a_end E hN
  refine W.widen (k := N1) (n := Z1) hce.1 hce.2 ?_
  exact Kr _ _ _ _ dJ2_toArray_11 G
theorem mofJ2_toArray_0 {a0 : Nat} {σ : St} {η : Eta} {o : Nat × St × Eta} (h : fJ2_toArray_0 a0 σ η = some o) : EX η o.2.2 := by
  unfold fJ2_toArray_0 at h
  obtain ⟨hX, h⟩ := ckX_e h
  obtain ⟨hs_1, h⟩ := ckS_e h
  obtain ⟨v2, e_v2, h⟩ := ckN_e h
  obtain ⟨hs_3, h⟩ := ckS_e h
  obtain ⟨r4, σ5, η6, h_7, h⟩ := bn3_e h
  have m_η6 := mofJ14_copyOf h_7
  exact EX.tr (EX.tr EX.rf m_η6) (mofJ2_toArray_11 h)
set_option maxHeartbeats 400000 in
theorem wJ2_toArray_0 (C0 : Cx ad dc D RJ2 cJ2_toArray 1 p s m args meth c) (a0 : Nat) (σ : St) (η : Eta) (hnm : meth.name = yJ2_toArray.name) (o : Nat × St × Eta) (h : fJ2_toArray_0 a0 σ η = some o) (Kr : KrAR p l e (RA FrJ2_toArray LoJ2_toArray N1 Z1) s m args below meth c cJ2_toArray Q (GW o.2.2.1 (ksOf o.2.2) ad dc D A s o.2.1) N1 Z1 (ad o.1)) (hN : o.2.2.2.1 ≤ n0 + N1 ∧ o.2.2.2.2 ≤ z0 + Z1) (H : Heap) (locs : List Loc) (ls : Array Slot) (cells slots : Nat) (hl : lv_has ls 1 [(0, .ref (ad a0))]) (G : GW η.1 (ksOf η) ad dc D A s σ H locs) (E : EA ad dc A s n0 z0 η cells slots) : W p l e (RA FrJ2_toArray LoJ2_toArray N1 Z1) s m args below meth c H locs cells slots Q (F0 m 0 ls []) := by
  have hx := C0.1
  have hb := C0.2.1
  have hcz := a_le E (mofJ2_toArray_0 h) hN
  unfold fJ2_toArray_0 at h
  obtain ⟨hX, h⟩ := ckX_e h
  refine lv_aload_n hx hb dJ2_toArray_0 rfl (lv_at hl 0 rfl) ?_
  obtain ⟨hs_1, h⟩ := ckS_e h
  obtain ⟨v2, e_v2, h⟩ := ckN_e h
  refine g_get C0 G in_J2 (ci := 24) rfl (ks_mem E.2.2.2.1 (by rw [hs_1]; exact (by decide : (0 : Nat) ≠ 9))) (fl := xDf24) hs_1 1 (by decide) rfl q179 dJ2_toArray_1 (fv_s e_v2) ?_
  refine lv_aload_n hx hb dJ2_toArray_4 rfl (lv_at hl 0 rfl) ?_
  obtain ⟨hs_3, h⟩ := ckS_e h
  refine g_get C0 G in_J2 (ci := 24) rfl (ks_mem E.2.2.2.1 (by rw [hs_3]; exact (by decide : (0 : Nat) ≠ 9))) (fl := xDf24) hs_3 2 (by decide) rfl q180 dJ2_toArray_5 rfl ?_
  obtain ⟨r4, σ5, η6, h_7, h⟩ := bn3_e h
  have m_η6 := mofJ14_copyOf h_7
  refine a_callSr (rest := []) C0 G E hl m_η6 (kJ14_copyOf (l := l) C0.2.2.2.2.2.2.1 G.2.2.2 h_7) (va_cwS 2 C0.2.2.2.2.1 (lw_S q536 q537 q146 q538) rfl rfl rfl hdJ14_copyOf ⟨Nat.le_of_ble_eq_true rfl, Nat.le_of_ble_eq_true rfl⟩) rfl (Nat.le_of_ble_eq_true rfl) dJ2_toArray_8 (a_lec E m_η6 (mofJ2_toArray_11 h) hN) (fun H locs G E => ?_)
  exact wJ2_toArray_11 C0 r4 (σ5) (η6) hnm _ h Kr hN _ _ _ _ _ (lv_sub hl [] rfl) G E
theorem mofJ2_toArray {a0 : Nat} {σ : St} {η : Eta} {o : Nat × St × Eta} (h : fJ2_toArray a0 σ η = some o) : EX η o.2.2 := mofJ2_toArray_0 h
theorem kJ2_toArray {l : Launch} {ad : Nat → Nat} {dc : Nat → ClassId} {D : va_G} {A : Nat → Prop} (hi : ∀ i j, ad i = ad j → i = j) {σ σ' : St} {η η' : Eta} (hA : ∀ k, k ∈ ksOf η → A (ad k)) {a0 : Nat} {r : Nat} (h : fJ2_toArray a0 σ η = some (r, σ', η')) : aMet l ad dc D A yJ2_toArray cJ2_toArray 1 (some (.array (.object "java/lang/Object"))) FrJ2_toArray LoJ2_toArray σ η η' [.ref (ad a0)] (aQr ad dc D A r σ' η') :=
  a_metR (Or.inr ⟨_, rfl⟩) (by decide) rfl hi hA (Nat.le_of_ble_eq_true rfl) (fun p e s m below meth c Q C0 hnm Kr E ls hl G => wJ2_toArray_0 C0 a0 σ η hnm (r, σ', η') h Kr a_kN _ _ _ _ _ hl G E)
-- J2_addAll
abbrev FrJ2_addAll : Nat := 4
abbrev LoJ2_addAll : Nat := 107
theorem hdJ2_addAll : yJ2_addAll.cls = RJ2 ∧ yJ2_addAll.cls ≠ "java/lang/invoke/MethodHandle" ∧ yJ2_addAll.cls ≠ "java/lang/invoke/VarHandle" ∧ (parseMethodDescriptor yJ2_addAll.desc).map (fun d => d.parameters.length) = some 1 := by decide +kernel
theorem mofJ2_addAll_56 {a0 : Nat} {a2 : Nat} {a3 : Int32} {a4 : Nat} {a5 : Int32} {σ : St} {η : Eta} {o : Int32 × St × Eta} (h : fJ2_addAll_56 a0 a2 a3 a4 a5 σ η = some o) : EX η o.2.2 := by
  unfold fJ2_addAll_56 at h
  obtain ⟨hX, h⟩ := ckX_e h
  obtain ⟨n_1, hs_2, h⟩ := ckO_e h
  obtain ⟨n_3, hs_4, h⟩ := ckO_e h
  obtain ⟨b_5, h⟩ := ckC_e h
  obtain ⟨ho_, h⟩ := ckP_e h
  obtain ⟨σ6, e_σ6⟩ : ∃ z : St, z = pCR (σ) a2 a4 (0 : Int32).toNatClampNeg a5.toNatClampNeg a3.toNatClampNeg := ⟨_, rfl⟩
  have h := letB_e h e_σ6
  obtain ⟨hs_7, h⟩ := ckS_e h
  obtain ⟨σ8, e_σ8⟩ : ∃ z : St, z = pI (σ6) a0 2 (a5 + a3) := ⟨_, rfl⟩
  have h := letB_e h e_σ8
  cases h
  exact EX.rf
set_option maxHeartbeats 400000 in
theorem wJ2_addAll_56 (C0 : Cx ad dc D RJ2 cJ2_addAll 6 p s m args meth c) (a0 : Nat) (a2 : Nat) (a3 : Int32) (a4 : Nat) (a5 : Int32) (σ : St) (η : Eta) (hnm : meth.name = yJ2_addAll.name) (o : Int32 × St × Eta) (h : fJ2_addAll_56 a0 a2 a3 a4 a5 σ η = some o) (Kr : KrAZ p l e (RA FrJ2_addAll LoJ2_addAll N1 Z1) s m args below meth c cJ2_addAll Q (GW o.2.2.1 (ksOf o.2.2) ad dc D A s o.2.1) N1 Z1 o.1) (hN : o.2.2.2.1 ≤ n0 + N1 ∧ o.2.2.2.2 ≤ z0 + Z1) (H : Heap) (locs : List Loc) (ls : Array Slot) (cells slots : Nat) (hl : lv_has ls 6 [(0, .ref (ad a0)), (2, .ref (ad a2)), (3, .int a3), (4, .ref (ad a4)), (5, .int a5)]) (G : GW η.1 (ksOf η) ad dc D A s σ H locs) (E : EA ad dc A s n0 z0 η cells slots) : W p l e (RA FrJ2_addAll LoJ2_addAll N1 Z1) s m args below meth c H locs cells slots Q (F0 m 56 ls []) := by
  have hx := C0.1
  have hb := C0.2.1
  have hcz := a_le E (mofJ2_addAll_56 h) hN
  unfold fJ2_addAll_56 at h
  obtain ⟨hX, h⟩ := ckX_e h
  refine lv_aload_n hx hb dJ2_addAll_56 rfl (lv_at hl 1 rfl) ?_
  refine lv_iconst (v := 0) hx hb dJ2_addAll_57 (by decide +kernel) ?_
  refine lv_aload hx hb dJ2_addAll_58 (lv_at hl 3 rfl) ?_
  refine lv_iload hx hb dJ2_addAll_60 (lv_at hl 4 rfl) ?_
  refine lv_iload_n hx hb dJ2_addAll_62 rfl (lv_at hl 2 rfl) ?_
  obtain ⟨n_1, hs_2, h⟩ := ckO_e h
  obtain ⟨n_3, hs_4, h⟩ := ckO_e h
  obtain ⟨b_5, h⟩ := ckC_e h
  obtain ⟨ho_, h⟩ := ckP_e h
  refine g_copyR C0 G (fun k h => ks_mem E.2.2.2.1 h) hl (n0 := n_1) (n1 := n_3) (ks_mem E.2.2.2.1 (by rw [hs_2]; exact (by decide : (2 : Nat) ≠ 9))) hs_2 (ks_mem E.2.2.2.1 (by rw [hs_4]; exact (by decide : (2 : Nat) ≠ 9))) hs_4 b_5 ho_ q595 q517 q516 q121 (Nat.le_of_ble_eq_true rfl) (Nat.le_of_ble_eq_true rfl) dJ2_addAll_63 (fun σ6 H locs e_σ6 G => ?_)
  have h := letB_e h e_σ6
  refine lv_aload_n hx hb dJ2_addAll_66 rfl (lv_at hl 0 rfl) ?_
  refine lv_iload hx hb dJ2_addAll_67 (lv_at hl 4 rfl) ?_
  refine lv_iload_n hx hb dJ2_addAll_69 rfl (lv_at hl 2 rfl) ?_
  refine lv_iadd hx hb dJ2_addAll_70 ?_
  obtain ⟨hs_7, h⟩ := ckS_e h
  refine g_putI C0 G in_J2 tyJ2_ok nmJ2 (ci := 24) rfl (ks_mem E.2.2.2.1 (by rw [hs_7]; exact (by decide : (0 : Nat) ≠ 9))) (fl := xDf24) hs_7 2 (by decide) rfl q180 rfl dJ2_addAll_71 ⟨rfl, rfl⟩ (fun σ8 H locs e_σ8 G => ?_)
  have h := letB_e h e_σ8
  refine lv_iconst (v := 1) hx hb dJ2_addAll_74 (by decide +kernel) ?_
  cases h
  have hce := a_end E hN
  refine W.widen (k := N1) (n := Z1) hce.1 hce.2 ?_
  exact Kr _ _ _ _ dJ2_addAll_75 (zz_nar (y := 1) (by decide)).1 G
theorem mofJ2_addAll_54 {a0 : Nat} {a2 : Nat} {a3 : Int32} {a5 : Int32} {t0 : Nat} {σ : St} {η : Eta} {o : Int32 × St × Eta} (h : fJ2_addAll_54 a0 a2 a3 a5 t0 σ η = some o) : EX η o.2.2 := by
  unfold fJ2_addAll_54 at h
  obtain ⟨hX, h⟩ := ckX_e h
  exact EX.tr EX.rf (mofJ2_addAll_56 h)
set_option maxHeartbeats 400000 in
theorem wJ2_addAll_54 (C0 : Cx ad dc D RJ2 cJ2_addAll 6 p s m args meth c) (a0 : Nat) (a2 : Nat) (a3 : Int32) (a5 : Int32) (t0 : Nat) (σ : St) (η : Eta) (hnm : meth.name = yJ2_addAll.name) (o : Int32 × St × Eta) (h : fJ2_addAll_54 a0 a2 a3 a5 t0 σ η = some o) (Kr : KrAZ p l e (RA FrJ2_addAll LoJ2_addAll N1 Z1) s m args below meth c cJ2_addAll Q (GW o.2.2.1 (ksOf o.2.2) ad dc D A s o.2.1) N1 Z1 o.1) (hN : o.2.2.2.1 ≤ n0 + N1 ∧ o.2.2.2.2 ≤ z0 + Z1) (H : Heap) (locs : List Loc) (ls : Array Slot) (cells slots : Nat) (hl : lv_has ls 6 [(0, .ref (ad a0)), (2, .ref (ad a2)), (3, .int a3), (5, .int a5)]) (G : GW η.1 (ksOf η) ad dc D A s σ H locs) (E : EA ad dc A s n0 z0 η cells slots) : W p l e (RA FrJ2_addAll LoJ2_addAll N1 Z1) s m args below meth c H locs cells slots Q (F0 m 54 ls [.ref (ad t0)]) := by
  have hx := C0.1
  have hb := C0.2.1
  have hcz := a_le E (mofJ2_addAll_54 h) hN
  unfold fJ2_addAll_54 at h
  obtain ⟨hX, h⟩ := ckX_e h
  refine lv_astore (lv' := [(4, .ref (ad t0)), (0, .ref (ad a0)), (2, .ref (ad a2)), (3, .int a3), (5, .int a5)]) hx hb dJ2_addAll_54 hl (by decide) rfl (fun ls hl => ?_)
  exact wJ2_addAll_56 C0 a0 a2 a3 t0 a5 (σ) (η) hnm _ h Kr hN _ _ _ _ _ (lv_sub hl [1, 2, 3, 0, 4] rfl) G E
theorem mofJ2_addAll_6 {a0 : Nat} {t0 : Nat} {σ : St} {η : Eta} {o : Int32 × St × Eta} (h : fJ2_addAll_6 a0 t0 σ η = some o) : EX η o.2.2 := by
  unfold fJ2_addAll_6 at h
  obtain ⟨hX, h⟩ := ckX_e h
  obtain ⟨hs_1, h⟩ := ckS_e h
  obtain ⟨hs_2, h⟩ := ckS_e h
  obtain ⟨σ3, e_σ3⟩ : ∃ z : St, z = pI (σ) a0 0 ((gI σ a0 0) + 1) := ⟨_, rfl⟩
  have h := letB_e h e_σ3
  obtain ⟨n_4, hs_5, h⟩ := ckO_e h
  obtain ⟨x6, e_x6⟩ : ∃ z : Int32, z = Int32.ofNat n_4 := ⟨_, rfl⟩
  have h := letB_e h e_x6
  rcases (Classical.em (x6 = 0)).symm with c7 | c7
  · have h := ite_f h c7
    obtain ⟨hs_8, h⟩ := ckS_e h
    obtain ⟨v9, e_v9, h⟩ := ckN_e h
    obtain ⟨n_10, hs_11, h⟩ := ckO_e h
    obtain ⟨hs_12, h⟩ := ckS_e h
    obtain ⟨x13, e_x13⟩ : ∃ z : Int32, z = gI σ3 a0 2 := ⟨_, rfl⟩
    have h := letB_e h e_x13
    rcases (Classical.em (x6 ≤ ((Int32.ofNat n_10) - x13))) with c14 | c14
    · have h := ite_t h c14
      exact EX.tr EX.rf (mofJ2_addAll_56 h)
    · have h := ite_f h c14
      obtain ⟨hs_rv, h⟩ := ckS_e h
      obtain ⟨r15, σ16, η17, h_18, h⟩ := bn3_e h
      have m_η17 := mofJ2_grow h_18
      exact EX.tr (EX.tr EX.rf m_η17) (mofJ2_addAll_54 h)
  · have h := ite_t h c7
    cases h
    exact EX.rf
set_option maxHeartbeats 400000 in
theorem wJ2_addAll_6 (C0 : Cx ad dc D RJ2 cJ2_addAll 6 p s m args meth c) (a0 : Nat) (t0 : Nat) (σ : St) (η : Eta) (hnm : meth.name = yJ2_addAll.name) (o : Int32 × St × Eta) (h : fJ2_addAll_6 a0 t0 σ η = some o) (Kr : KrAZ p l e (RA FrJ2_addAll LoJ2_addAll N1 Z1) s m args below meth c cJ2_addAll Q (GW o.2.2.1 (ksOf o.2.2) ad dc D A s o.2.1) N1 Z1 o.1) (hN : o.2.2.2.1 ≤ n0 + N1 ∧ o.2.2.2.2 ≤ z0 + Z1) (H : Heap) (locs : List Loc) (ls : Array Slot) (cells slots : Nat) (hl : lv_has ls 6 [(0, .ref (ad a0))]) (G : GW η.1 (ksOf η) ad dc D A s σ H locs) (E : EA ad dc A s n0 z0 η cells slots) : W p l e (RA FrJ2_addAll LoJ2_addAll N1 Z1) s m args below meth c H locs cells slots Q (F0 m 6 ls [.ref (ad t0)]) := by
  have hx := C0.1
  have hb := C0.2.1
  have hcz := a_le E (mofJ2_addAll_6 h) hN
  unfold fJ2_addAll_6 at h
  obtain ⟨hX, h⟩ := ckX_e h
  refine lv_astore_n (lv' := [(2, .ref (ad t0)), (0, .ref (ad a0))]) hx hb dJ2_addAll_6 rfl hl (by decide) rfl (fun ls hl => ?_)
  refine lv_aload_n hx hb dJ2_addAll_7 rfl (lv_at hl 1 rfl) ?_
  refine lv_dup hx hb dJ2_addAll_8 rfl ?_
  obtain ⟨hs_1, h⟩ := ckS_e h
  refine g_getF C0 G in_J2 (ci := 24) rfl (ks_mem E.2.2.2.1 (by rw [hs_1]; exact (by decide : (0 : Nat) ≠ 9))) (fl := xDf24) hs_1 0 (by decide) rfl q182 q183 dJ2_addAll_9 rfl ?_
  refine lv_iconst (v := 1) hx hb dJ2_addAll_12 (by decide +kernel) ?_
  refine lv_iadd hx hb dJ2_addAll_13 ?_
  obtain ⟨hs_2, h⟩ := ckS_e h
  refine g_putSI C0 G in_J2 tyJ2_ok nmJ2 (ci := 24) rfl (ks_mem E.2.2.2.1 (by rw [hs_2]; exact (by decide : (0 : Nat) ≠ 9))) (fl := xDf24) hs_2 0 (by decide) rfl q182 q183 rfl dJ2_addAll_14 ⟨rfl, rfl⟩ (fun σ3 H locs e_σ3 G => ?_)
  have h := letB_e h e_σ3
  refine lv_aload_n hx hb dJ2_addAll_17 rfl (lv_at hl 0 rfl) ?_
  obtain ⟨n_4, hs_5, h⟩ := ckO_e h
  refine g_alenO C0 G (n := n_4) (ks_mem E.2.2.2.1 (by rw [hs_5]; exact (by decide : (2 : Nat) ≠ 9))) hs_5 dJ2_addAll_18 ?_
  refine lv_topi (fun x6 e_x6 => ?_)
  have h := letB_e h e_x6
  refine lv_istore_n (lv' := [(3, .int x6), (2, .ref (ad t0)), (0, .ref (ad a0))]) hx hb dJ2_addAll_19 rfl hl (by decide) rfl (fun ls hl => ?_)
  refine lv_iload_n hx hb dJ2_addAll_20 rfl (lv_at hl 0 rfl) ?_
  refine lv_if_ne (tgt := 26) hx hb dJ2_addAll_21 (by decide) (fun c7 => ?_) (fun c7 => ?_)
  · have h := ite_f h c7
    refine lv_iload_n hx hb dJ2_addAll_26 rfl (lv_at hl 0 rfl) ?_
    refine lv_aload_n hx hb dJ2_addAll_27 rfl (lv_at hl 2 rfl) ?_
    obtain ⟨hs_8, h⟩ := ckS_e h
    obtain ⟨v9, e_v9, h⟩ := ckN_e h
    refine g_get C0 G in_J2 (ci := 24) rfl (ks_mem E.2.2.2.1 (by rw [hs_8]; exact (by decide : (0 : Nat) ≠ 9))) (fl := xDf24) hs_8 1 (by decide) rfl q179 dJ2_addAll_28 (fv_s e_v9) ?_
    refine lv_dup hx hb dJ2_addAll_31 rfl ?_
    refine lv_astore (lv' := [(4, .ref (ad v9)), (3, .int x6), (2, .ref (ad t0)), (0, .ref (ad a0))]) hx hb dJ2_addAll_32 hl (by decide) rfl (fun ls hl => ?_)
    obtain ⟨n_10, hs_11, h⟩ := ckO_e h
    refine g_alenO C0 G (n := n_10) (ks_mem E.2.2.2.1 (by rw [hs_11]; exact (by decide : (2 : Nat) ≠ 9))) hs_11 dJ2_addAll_34 ?_
    refine lv_aload_n hx hb dJ2_addAll_35 rfl (lv_at hl 3 rfl) ?_
    obtain ⟨hs_12, h⟩ := ckS_e h
    refine g_get C0 G in_J2 (ci := 24) rfl (ks_mem E.2.2.2.1 (by rw [hs_12]; exact (by decide : (0 : Nat) ≠ 9))) (fl := xDf24) hs_12 2 (by decide) rfl q180 dJ2_addAll_36 rfl ?_
    refine lv_topi (fun x13 e_x13 => ?_)
    have h := letB_e h e_x13
    refine lv_dup hx hb dJ2_addAll_39 rfl ?_
    refine lv_istore (lv' := [(5, .int x13), (4, .ref (ad v9)), (3, .int x6), (2, .ref (ad t0)), (0, .ref (ad a0))]) hx hb dJ2_addAll_40 hl (by decide) rfl (fun ls hl => ?_)
    refine lv_isub hx hb dJ2_addAll_42 ?_
    refine lv_icmp_le (tgt := 56) hx hb dJ2_addAll_43 (by decide) (fun c14 => ?_) (fun c14 => ?_)
    · have h := ite_t h c14
      exact wJ2_addAll_56 C0 a0 t0 x6 v9 x13 (σ3) (η) hnm _ h Kr hN _ _ _ _ _ (lv_sub hl [4, 3, 2, 1, 0] rfl) G E
    · have h := ite_f h c14
      refine lv_aload_n hx hb dJ2_addAll_46 rfl (lv_at hl 4 rfl) ?_
      refine lv_iload hx hb dJ2_addAll_47 (lv_at hl 0 rfl) ?_
      refine lv_iload_n hx hb dJ2_addAll_49 rfl (lv_at hl 2 rfl) ?_
      refine lv_iadd hx hb dJ2_addAll_50 ?_
      obtain ⟨hs_rv, h⟩ := ckS_e h
      obtain ⟨r15, σ16, η17, h_18, h⟩ := bn3_e h
      have m_η17 := mofJ2_grow h_18
      refine a_callVr (rest := []) C0 G E hl (ci := 24) rfl (ks_mem E.2.2.2.1 (by rw [hs_rv]; exact (by decide : (0 : Nat) ≠ 9))) (fl := xDf24) hs_rv m_η17 (kJ2_grow (l := l) C0.2.2.2.2.2.2.1 G.2.2.2 h_18) (cwV 1 C0.2.2.2.2.1 (lw_V q578 q580 qs1 q109 q581) rfl rfl rfl hdJ2_grow ⟨Nat.le_of_ble_eq_true rfl, Nat.le_of_ble_eq_true rfl⟩) rfl (Nat.le_of_ble_eq_true rfl) dJ2_addAll_51 (a_lec E m_η17 (mofJ2_addAll_54 h) hN) (fun H locs G E => ?_)
      exact wJ2_addAll_54 C0 a0 t0 x6 x13 r15 (σ16) (η17) hnm _ h Kr hN _ _ _ _ _ (lv_sub hl [4, 3, 2, 0] rfl) G E
  · have h := ite_t h c7
    refine lv_iconst (v := 0) hx hb dJ2_addAll_24 (by decide +kernel) ?_
    cases h
    have hce := a_end E hN
    refine W.widen (k := N1) (n := Z1) hce.1 hce.2 ?_
    exact Kr _ _ _ _ dJ2_addAll_25 (zz_nar (y := 0) (by decide)).1 G
theorem mofJ2_addAll_0 {a0 : Nat} {a1 : Nat} {σ : St} {η : Eta} {o : Int32 × St × Eta} (h : fJ2_addAll_0 a0 a1 σ η = some o) : EX η o.2.2 := by
  unfold fJ2_addAll_0 at h
  obtain ⟨hX, h⟩ := ckX_e h
  obtain ⟨hs_rv, h⟩ := ckS_e h
  obtain ⟨r1, σ2, η3, h_4, h⟩ := bn3_e h
  have m_η3 := mofJ2_toArray h_4
  exact EX.tr (EX.tr EX.rf m_η3) (mofJ2_addAll_6 h)
set_option maxHeartbeats 400000 in
theorem wJ2_addAll_0 (C0 : Cx ad dc D RJ2 cJ2_addAll 6 p s m args meth c) (a0 : Nat) (a1 : Nat) (σ : St) (η : Eta) (hnm : meth.name = yJ2_addAll.name) (o : Int32 × St × Eta) (h : fJ2_addAll_0 a0 a1 σ η = some o) (Kr : KrAZ p l e (RA FrJ2_addAll LoJ2_addAll N1 Z1) s m args below meth c cJ2_addAll Q (GW o.2.2.1 (ksOf o.2.2) ad dc D A s o.2.1) N1 Z1 o.1) (hN : o.2.2.2.1 ≤ n0 + N1 ∧ o.2.2.2.2 ≤ z0 + Z1) (H : Heap) (locs : List Loc) (ls : Array Slot) (cells slots : Nat) (hl : lv_has ls 6 [(0, .ref (ad a0)), (1, .ref (ad a1))]) (G : GW η.1 (ksOf η) ad dc D A s σ H locs) (E : EA ad dc A s n0 z0 η cells slots) : W p l e (RA FrJ2_addAll LoJ2_addAll N1 Z1) s m args below meth c H locs cells slots Q (F0 m 0 ls []) := by
  have hx := C0.1
  have hb := C0.2.1
  have hcz := a_le E (mofJ2_addAll_0 h) hN
  unfold fJ2_addAll_0 at h
  obtain ⟨hX, h⟩ := ckX_e h
  refine lv_aload_n hx hb dJ2_addAll_0 rfl (lv_at hl 1 rfl) ?_
  obtain ⟨hs_rv, h⟩ := ckS_e h
  obtain ⟨r1, σ2, η3, h_4, h⟩ := bn3_e h
  have m_η3 := mofJ2_toArray h_4
  refine a_callFr (rest := []) C0 G E hl (ci := 24) rfl (ks_mem E.2.2.2.1 (by rw [hs_rv]; exact (by decide : (0 : Nat) ≠ 9))) (fl := xDf24) hs_rv m_η3 (kJ2_toArray (l := l) C0.2.2.2.2.2.2.1 G.2.2.2 h_4) (va_cwF 0 C0.2.2.2.2.1 (lw_F q527 q531 q533 q109 q535) rfl rfl rfl C0.2.2.2.2.2.2.2.1.2.2.2.2 (by decide +kernel) ⟨Nat.le_of_ble_eq_true rfl, Nat.le_of_ble_eq_true rfl⟩) rfl (Nat.le_of_ble_eq_true rfl) dJ2_addAll_1 (a_lec E m_η3 (mofJ2_addAll_6 h) hN) (fun H locs G E => ?_)
  exact wJ2_addAll_6 C0 a0 r1 (σ2) (η3) hnm _ h Kr hN _ _ _ _ _ (lv_sub hl [0] rfl) G E
theorem mofJ2_addAll {a0 : Nat} {a1 : Nat} {σ : St} {η : Eta} {o : Int32 × St × Eta} (h : fJ2_addAll a0 a1 σ η = some o) : EX η o.2.2 := mofJ2_addAll_0 h
theorem kJ2_addAll {l : Launch} {ad : Nat → Nat} {dc : Nat → ClassId} {D : va_G} {A : Nat → Prop} (hi : ∀ i j, ad i = ad j → i = j) {σ σ' : St} {η η' : Eta} (hA : ∀ k, k ∈ ksOf η → A (ad k)) {a0 : Nat} {a1 : Nat} {r : Int32} (h : fJ2_addAll a0 a1 σ η = some (r, σ', η')) : aMet l ad dc D A yJ2_addAll cJ2_addAll 6 (some .boolean) FrJ2_addAll LoJ2_addAll σ η η' [.ref (ad a0), .ref (ad a1)] (aQi ad dc D A r σ' η') :=
  a_metZ (by decide) rfl hi hA (Nat.le_of_ble_eq_true rfl) (fun p e s m below meth c Q C0 hnm Kr E ls hl G => wJ2_addAll_0 C0 a0 a1 σ η hnm (r, σ', η') h Kr a_kN _ _ _ _ _ hl G E)
end
