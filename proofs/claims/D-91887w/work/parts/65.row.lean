/-! HotIron.row: its loop may end in a caught exception of the machine (by wip/gen/gen_w.py) -/
set_option maxRecDepth 100000
noncomputable def ckWh {β : Type} (at_ : Int32) (n : Nat) (x y : Option β) : Option β := @ite _ (vp_in (at_ + 1) n ∧ vp_in (at_ + 2) n ∧ vp_in (at_ + 3) n) (Classical.propDecidable _) y x
theorem ckWh_e {β : Type} {at_ : Int32} {n : Nat} {x y : Option β} {o : β} (h : ckWh at_ n x y = some o) : (¬ (vp_in (at_ + 1) n ∧ vp_in (at_ + 2) n ∧ vp_in (at_ + 3) n) ∧ x = some o) ∨ ((vp_in (at_ + 1) n ∧ vp_in (at_ + 2) n ∧ vp_in (at_ + 3) n) ∧ y = some o) := by
  unfold ckWh at h
  by_cases q : vp_in (at_ + 1) n ∧ vp_in (at_ + 2) n ∧ vp_in (at_ + 3) n
  · rw [if_pos q] at h
    exact Or.inr ⟨q, h⟩
  · rw [if_neg q] at h
    exact Or.inl ⟨q, h⟩
/-- the loop's first way out -/
def sX0_row (x : Option ((Int32 × St × Eta) ⊕ (Int32 × St × Eta))) : Option (((Int32 × St × Eta) ⊕ (Int32 × St × Eta)) ⊕ (Int32 × St × Eta)) := match x with
  | some (.inl v) => some (.inl (.inl v))
  | some (.inr v) => some (.inr v)
  | none => none
theorem sX0_row_e {x : Option ((Int32 × St × Eta) ⊕ (Int32 × St × Eta))} {o : ((Int32 × St × Eta) ⊕ (Int32 × St × Eta)) ⊕ (Int32 × St × Eta)} (h : sX0_row x = some o) : (∃ v, x = some (.inl v) ∧ o = .inl (.inl v)) ∨ (∃ v, x = some (.inr v) ∧ o = .inr v) := by
  unfold sX0_row at h
  split at h
  · exact Or.inl ⟨_, rfl, (Option.some.inj h).symm⟩
  · exact Or.inr ⟨_, rfl, (Option.some.inj h).symm⟩
  · cases h
theorem a_w3 {cells slots N1 Z1 f lo : Nat} (h : cells ≤ N1 ∧ slots ≤ Z1) : cells ≤ (RA f lo (N1 + 3) (Z1 + 80)).cells ∧ slots ≤ (RA f lo (N1 + 3) (Z1 + 80)).slots := ⟨Nat.le_trans h.1 (Nat.le_add_right _ _), Nat.le_trans h.2 (Nat.le_add_right _ _)⟩
abbrev aioN : String := "java/lang/ArrayIndexOutOfBoundsException"
abbrev aioUp : List String := ["java/lang/IndexOutOfBoundsException", "java/lang/RuntimeException", "java/lang/Exception"]
def aioT (n : Nat) : String := toString "Index " ++ toString (Int32.ofNat n) ++ toString " out of bounds for length " ++ toString n
theorem aio_txt : ∀ n, n ≤ 20 → (aioT n == notModelled) = false ∧ (stringBytes (stringToUtf16 (aioT n))).size ≤ 70 := by
  intro n hn
  have h : ∀ k : Fin 21, (aioT k.1 == notModelled) = false ∧ (stringBytes (stringToUtf16 (aioT k.1))).size ≤ 70 := by decide +kernel
  exact h ⟨n, by omega⟩
theorem aio_in : ∀ w ∈ vx_atM aioN aioUp, w ∈ lw_all ∨ (w ∈ lw_tbl ∧ isRide w = true) := by
  have h : (vx_atM aioN aioUp).all (fun w => lw_all.contains w || (lw_tbl.contains w && isRide w)) = true := by decide +kernel
  intro w hw
  have h2 := List.all_eq_true.mp h w hw
  rw [Bool.or_eq_true, Bool.and_eq_true] at h2
  exact h2.elim (fun q => Or.inl (List.contains_iff_mem.mp q)) (fun q => Or.inr ⟨List.contains_iff_mem.mp q.1, q.2⟩)
theorem aio_good : ∀ w ∈ vx_atM aioN aioUp, vx_ot w = true := by
  have h : (vx_atM aioN aioUp).all (fun w => vx_ot w) = true := by decide +kernel
  intro w hw
  exact List.all_eq_true.mp h w hw
/-- the first place beyond the end is the end -/
theorem in_next {i : Int32} {n : Nat} (hn : n ≤ 20) (h : vp_in i n) (h1 : ¬ vp_in (i + 1) n) : i + 1 = Int32.ofNat n := by
  unfold vp_in at h h1
  rw [Classical.not_not] at h1
  have h0 : ¬ i < 0 := fun q => h (Or.inl q)
  have h2 : i.toNatClampNeg < n := Nat.not_le.mp fun q => h (Or.inr q)
  rw [Int32.lt_iff_toInt_lt, Int32.toInt_zero] at h0
  have e1 : i.toInt = (i.toNatClampNeg : Int) := by rw [Int32.toNatClampNeg, Int.toNat_of_nonneg (by omega)]
  have e2 : (i + 1).toInt = i.toInt + 1 := by
    rw [Int32.toInt_add, show (1 : Int32).toInt = 1 from rfl, Int.bmod_eq_of_le (by omega) (by omega)]
  apply Int32.toInt_inj.mp
  rw [Int32.toInt_ofNat_of_lt (by omega)]
  rcases h1 with q | q
  · rw [Int32.lt_iff_toInt_lt, Int32.toInt_zero, e2] at q
    omega
  · have e3 : (i + 1).toNatClampNeg = (i + 1).toInt.toNat := rfl
    rw [e3, e2] at q
    omega
/-- the tape's bytes are bytes -/
def obB (σ : St) (n : Nat) : Prop := ∀ i, i < n → fits .byte (.int (gA σ 11 ((0 : Int32).toNatClampNeg + i))) = true
theorem g_copyB {p : Program} {l : Launch} {e : Env} {R : Room} {s : State} {m : MethodId} {args : Array Value} {below : List Frame} {meth : Method} {c : Code} {H : Heap} {locs : List Loc} {cells slots : Nat} {Q : State → Prop} {cc : ByteArray} {nL : Nat} {sh : Nat → Sh} {ks : List Nat} {ad : Nat → Nat} {dc : Nat → ClassId} {D : va_G} {A : Nat → Prop} {own : String} {σ : St} {pc idx : Nat} {ls : Array Slot} {rest : List Value} {lv : List (Nat × Value)} (C0 : Cx ad dc D own cc nL p s m args meth c) (G : GW sh ks ad dc D A s σ H locs) (hl : lv_has ls nL lv) {k0 k1 n0 n1 : Nat} (hk0 : k0 ∈ ks) (hs0 : sh k0 = (1, 1, n0, [])) (hk1 : k1 ∈ ks) (hs1 : sh k1 = (1, 1, n1, [])) {sp dp n : Int32} (hc : ¬ sp < 0 ∧ ¬ dp < 0 ∧ ¬ n < 0 ∧ sp.toNatClampNeg + n.toNatClampNeg ≤ n0 ∧ dp.toNatClampNeg + n.toNatClampNeg ≤ n1) (hfit : ∀ i, i < n.toNatClampNeg → fits .byte (.int (gA σ k0 (sp.toNatClampNeg + i))) = true)
    (hq : Cond.methodLink own idx arraycopyName ∈ lw_all) (hq1 : Cond.native arraycopyName ∈ lw_all) (hq2 : Cond.static arraycopyName ∈ lw_all) (hq3 : Cond.initialized "java/lang/System" ∈ lw_all) (hframes : 1 ≤ R.frames) (hlocals : (rest.map fun v => v.category).sum + (nativeFrameWords "java/lang/System" "arraycopy" 5 + 11) ≤ R.locals) (hdg : decode cc pc = .ok (.invokestatic idx, 3))
    (kk : ∀ σ' H1 locs1, σ' = pC σ k0 k1 sp.toNatClampNeg dp.toNatClampNeg n.toNatClampNeg → GW sh ks ad dc D A s σ' H1 locs1 → W p l e R s m args below meth c H1 locs1 cells slots Q (F0 m (pc + 3) ls rest)) : W p l e R s m args below meth c H locs cells slots Q (F0 m pc ls (.int n :: .int dp :: .ref (ad k1) :: .int sp :: .ref (ad k0) :: rest)) := by
  obtain ⟨i0, e0⟩ := List.getElem?_of_mem hk0
  obtain ⟨i1, e1⟩ := List.getElem?_of_mem hk1
  have hts := C0.2.2.2.2.1
  refine va_copyi C0.1 C0.2.1 (C0.2.2.1.trans hl.1.symm) C0.2.2.2.1 (hts _ hq) (hts _ hq1) (hts _ hq2) (hts _ hq3) C0.2.2.2.2.2.1 G.1 (wsOf_D C0.2.2.2.2.2.2.1 G.2.2.1 G.2.2.2) G.2.1 i0 i1 1 1 ((wsOf_at e0).trans (by rw [ce_a hs0])) ((wsOf_at e1).trans (by rw [ce_a hs1])) rfl rfl rfl hc.1 hc.2.1 hc.2.2.1 hc.2.2.2.1 hc.2.2.2.2 hfit hframes hlocals hdg (fun H1 locs1 hP _ hS => kk _ H1 locs1 rfl ⟨?_, hS, G.2.2⟩)
  rw [wsOf_set (σ' := pC σ k0 k1 sp.toNatClampNeg dp.toNatClampNeg n.toNatClampNeg) G.2.2.1 e1 (by rw [ce_a hs1, gA_pC, if_pos rfl])] at hP
  · exact hP
  · intro c hc
    exact ce_off (fun _ => rfl) (fun _ => rfl) (fun _ => by rw [gA_pC, if_neg hc]) (fun _ => rfl)
-- X0_whole
noncomputable def fX0_whole_0 (a0 : Nat) (a1 : Int32) (σ : St) (η : Eta) : Option (Int32 × St × Eta) := ckX η (ckI 1 (η.1 a0) (fun n_1 => ckB a1 n_1 (ckI 1 (η.1 a0) (fun n_4 => ckB (a1 + 1) n_4 (ckI 1 (η.1 a0) (fun n_7 => ckB (a1 + 2) n_7 (ckI 1 (η.1 a0) (fun n_10 => ckB (a1 + 3) n_10 (some (((((gA (σ) a0 a1.toNatClampNeg) <<< (24 &&& 31)) ||| (((gA (σ) a0 (a1 + 1).toNatClampNeg) &&& 255) <<< (16 &&& 31))) ||| (((gA (σ) a0 (a1 + 2).toNatClampNeg) &&& 255) <<< (8 &&& 31))) ||| ((gA (σ) a0 (a1 + 3).toNatClampNeg) &&& 255), σ, η))))))))))
noncomputable def fX0_whole (a0 : Nat) (a1 : Int32) (σ : St) (η : Eta) : Option (Int32 × St × Eta) := fX0_whole_0 a0 a1 σ η
section
variable {p : Program} {l : Launch} {e : Env} {s : State} {m : MethodId} {args : Array Value} {below : List Frame} {meth : Method} {c : Code} {Q : State → Prop} {ad : Nat → Nat} {dc : Nat → ClassId} {D : va_G} {A : Nat → Prop} {n0 z0 N1 Z1 : Nat}
-- X0_whole
abbrev FrX0_whole : Nat := 1
abbrev LoX0_whole : Nat := 20
theorem hdX0_whole : yX0_whole.cls ≠ "java/lang/invoke/MethodHandle" ∧ yX0_whole.cls ≠ "java/lang/invoke/VarHandle" ∧ (parseMethodDescriptor yX0_whole.desc).map (fun d => d.parameters.length) = some 2 := by decide +kernel
theorem mofX0_whole_0 {a0 : Nat} {a1 : Int32} {σ : St} {η : Eta} {o : Int32 × St × Eta} (h : fX0_whole_0 a0 a1 σ η = some o) : EX η o.2.2 := by
  unfold fX0_whole_0 at h
  obtain ⟨hX, h⟩ := ckX_e h
  obtain ⟨n_1, hs_2, h⟩ := ckI_e h
  obtain ⟨b_3, h⟩ := ckB_e h
  obtain ⟨n_4, hs_5, h⟩ := ckI_e h
  obtain ⟨b_6, h⟩ := ckB_e h
  obtain ⟨n_7, hs_8, h⟩ := ckI_e h
  obtain ⟨b_9, h⟩ := ckB_e h
  obtain ⟨n_10, hs_11, h⟩ := ckI_e h
  obtain ⟨b_12, h⟩ := ckB_e h
  cases h
  exact EX.rf
set_option maxHeartbeats 400000 in
theorem wX0_whole_0 (C0 : Cx ad dc D RX0 cX0_whole 2 p s m args meth c) (a0 : Nat) (a1 : Int32) (σ : St) (η : Eta) (hnm : meth.name = yX0_whole.name) (o : Int32 × St × Eta) (h : fX0_whole_0 a0 a1 σ η = some o) (Kr : KrAI p l e (RA FrX0_whole LoX0_whole N1 Z1) s m args below meth c cX0_whole Q (GW o.2.2.1 (ksOf o.2.2) ad dc D A s o.2.1) N1 Z1 o.1) (hN : o.2.2.2.1 ≤ n0 + N1 ∧ o.2.2.2.2 ≤ z0 + Z1) (H : Heap) (locs : List Loc) (ls : Array Slot) (cells slots : Nat) (hl : lv_has ls 2 [(0, .ref (ad a0)), (1, .int a1)]) (G : GW η.1 (ksOf η) ad dc D A s σ H locs) (E : EA ad dc A s n0 z0 η cells slots) : W p l e (RA FrX0_whole LoX0_whole N1 Z1) s m args below meth c H locs cells slots Q (F0 m 0 ls []) := by
  have hx := C0.1
  have hb := C0.2.1
  have hcz := a_le E (mofX0_whole_0 h) hN
  unfold fX0_whole_0 at h
  obtain ⟨hX, h⟩ := ckX_e h
  refine lv_aload_n hx hb dX0_whole_0 rfl (lv_at hl 0 rfl) ?_
  refine lv_iload_n hx hb dX0_whole_1 rfl (lv_at hl 1 rfl) ?_
  obtain ⟨n_1, hs_2, h⟩ := ckI_e h
  obtain ⟨b_3, h⟩ := ckB_e h
  refine g_bald C0 G (n := n_1) (ks_mem E.2.2.2.1 (by rw [hs_2]; exact (by decide : (1 : Nat) ≠ 9))) hs_2 b_3 dX0_whole_2 ?_
  refine lv_bipush (v := 24) hx hb dX0_whole_3 (by decide +kernel) ?_
  refine lv_ishl hx hb dX0_whole_5 ?_
  refine lv_aload_n hx hb dX0_whole_6 rfl (lv_at hl 0 rfl) ?_
  refine lv_iload_n hx hb dX0_whole_7 rfl (lv_at hl 1 rfl) ?_
  refine lv_iconst (v := 1) hx hb dX0_whole_8 (by decide +kernel) ?_
  refine lv_iadd hx hb dX0_whole_9 ?_
  obtain ⟨n_4, hs_5, h⟩ := ckI_e h
  obtain ⟨b_6, h⟩ := ckB_e h
  refine g_bald C0 G (n := n_4) (ks_mem E.2.2.2.1 (by rw [hs_5]; exact (by decide : (1 : Nat) ≠ 9))) hs_5 b_6 dX0_whole_10 ?_
  refine lv_sipush (v := 255) hx hb dX0_whole_11 (by decide +kernel) ?_
  refine lv_iand hx hb dX0_whole_14 ?_
  refine lv_bipush (v := 16) hx hb dX0_whole_15 (by decide +kernel) ?_
  refine lv_ishl hx hb dX0_whole_17 ?_
  refine lv_ior hx hb dX0_whole_18 ?_
  refine lv_aload_n hx hb dX0_whole_19 rfl (lv_at hl 0 rfl) ?_
  refine lv_iload_n hx hb dX0_whole_20 rfl (lv_at hl 1 rfl) ?_
  refine lv_iconst (v := 2) hx hb dX0_whole_21 (by decide +kernel) ?_
  refine lv_iadd hx hb dX0_whole_22 ?_
  obtain ⟨n_7, hs_8, h⟩ := ckI_e h
  obtain ⟨b_9, h⟩ := ckB_e h
  refine g_bald C0 G (n := n_7) (ks_mem E.2.2.2.1 (by rw [hs_8]; exact (by decide : (1 : Nat) ≠ 9))) hs_8 b_9 dX0_whole_23 ?_
  refine lv_sipush (v := 255) hx hb dX0_whole_24 (by decide +kernel) ?_
  refine lv_iand hx hb dX0_whole_27 ?_
  refine lv_bipush (v := 8) hx hb dX0_whole_28 (by decide +kernel) ?_
  refine lv_ishl hx hb dX0_whole_30 ?_
  refine lv_ior hx hb dX0_whole_31 ?_
  refine lv_aload_n hx hb dX0_whole_32 rfl (lv_at hl 0 rfl) ?_
  refine lv_iload_n hx hb dX0_whole_33 rfl (lv_at hl 1 rfl) ?_
  refine lv_iconst (v := 3) hx hb dX0_whole_34 (by decide +kernel) ?_
  refine lv_iadd hx hb dX0_whole_35 ?_
  obtain ⟨n_10, hs_11, h⟩ := ckI_e h
  obtain ⟨b_12, h⟩ := ckB_e h
  refine g_bald C0 G (n := n_10) (ks_mem E.2.2.2.1 (by rw [hs_11]; exact (by decide : (1 : Nat) ≠ 9))) hs_11 b_12 dX0_whole_36 ?_
  refine lv_sipush (v := 255) hx hb dX0_whole_37 (by decide +kernel) ?_
  refine lv_iand hx hb dX0_whole_40 ?_
  refine lv_ior hx hb dX0_whole_41 ?_
  cases h
  have hce := a_end E hN
  refine W.widen (k := N1) (n := Z1) hce.1 hce.2 ?_
  exact Kr _ _ _ _ dX0_whole_42 G
theorem mofX0_whole {a0 : Nat} {a1 : Int32} {σ : St} {η : Eta} {o : Int32 × St × Eta} (h : fX0_whole a0 a1 σ η = some o) : EX η o.2.2 := mofX0_whole_0 h
theorem kX0_whole {l : Launch} {ad : Nat → Nat} {dc : Nat → ClassId} {D : va_G} {A : Nat → Prop} (hi : ∀ i j, ad i = ad j → i = j) {σ σ' : St} {η η' : Eta} (hA : ∀ k, k ∈ ksOf η → A (ad k)) {a0 : Nat} {a1 : Int32} {r : Int32} (h : fX0_whole a0 a1 σ η = some (r, σ', η')) : aMet l ad dc D A yX0_whole cX0_whole 2 (some .int) FrX0_whole LoX0_whole σ η η' [.ref (ad a0), .int a1] (aQi ad dc D A r σ' η') :=
  a_metI (by decide) rfl hi hA (Nat.le_of_ble_eq_true rfl) (fun p e s m below meth c Q C0 hnm Kr E ls hl G => wX0_whole_0 C0 a0 a1 σ η hnm (r, σ', η') h Kr a_kN _ _ _ _ _ hl G E)
end
/-- thrown by the machine: the world as it was -/
abbrev wXC (ad : Nat → Nat) (dc : Nat → ClassId) (D : va_G) (A : Nat → Prop) (σ : St) (η : Eta) : String → State → State → Prop := vx_X (fun (_ : Unit) => True) (fun E _ t => E = aioN ∧ aB ad dc D σ η t) A
theorem kxX0_whole {l : Launch} (hfl : l.flags = flags0) {ad : Nat → Nat} {dc : Nat → ClassId} {D : va_G} {A : Nat → Prop} (hi : ∀ i j, ad i = ad j → i = j) {σ : St} {η : Eta} (hA : ∀ k, k ∈ ksOf η → A (ad k)) {a0 n : Nat} {a1 : Int32} (hs : η.1 a0 = (1, 1, n, [])) (h20 : n ≤ 20) (hin : vp_in a1 n) (hw : ¬ (vp_in (a1 + 1) n ∧ vp_in (a1 + 2) n ∧ vp_in (a1 + 3) n)) :
    vx_Met l yX0_whole (ws_ yX0_whole cX0_whole 2 (some .int)) (RA 20 10300 3 80) (aPc ad dc D A σ η [.ref (ad a0), .int a1]) (fun _ _ _ _ => False) (wXC ad dc D A σ η) 3 80 A := by
  refine vx_ofW (cc := cX0_whole) (maxL := 2) (ret := some .int) (by decide) rfl ?_
  intro p e s m args below meth c s₁ B hml htb hv
  obtain ⟨rfl, hP, hK, hN, hE⟩ := hv
  have hts := atoms_spec (ws := ws_ yX0_whole cX0_whole 2 (some .int)) B.pre
  have hta : ∀ w ∈ lw_all, w.before _ s = true := fun w h => hts w (List.mem_cons_of_mem _ h)
  rw [lg_entry_eq]
  have hl := lv_entry [.ref (ad a0), .int a1] (n := 2) (Nat.le_of_ble_eq_true rfl)
  generalize (lg_sl [.ref (ad a0), .int a1] ++ List.replicate (2 - (lg_sl [.ref (ad a0), .int a1]).length) Slot.unset).toArray = ls at hl ⊢
  have hl : lv_has ls 2 [(0, .ref (ad a0)), (1, .int a1)] := hl
  have hx := B.exec
  have hb := B.bytes
  have hk : a0 ∈ ksOf η := ks_mem hE.2.2.2.1 (by rw [hs]; exact (by decide : (1 : Nat) ≠ 9))
  obtain ⟨i0, h0⟩ := List.getElem?_of_mem hk
  have he : (wsOf (ksOf η) η.1 ad dc σ)[i0]? = some (ad a0, .inl (dc 1, n, .inl (gA σ a0))) := (wsOf_at h0).trans (by rw [ce_a hs])
  have hst : l.stackTraces = false := by
    unfold Launch.stackTraces
    rw [hfl]
    decide +kernel
  have OUT : ∀ (pc : Nat) (rest : List Value), (rest.map fun v => v.category).sum ≤ 8 → ∀ tx, tx = aioT n → vx_Note p l e (RA 20 10300 3 80) s m #[Value.ref (ad a0), Value.int a1] below meth c s.heap [] 0 0 (vx_MQ below (fun _ _ _ _ => False) (wXC ad dc D A σ η) #[Value.ref (ad a0), Value.int a1] s 3 80 A) (F0 m pc ls rest) aioN tx := by
    intro pc rest hr tx htx
    subst htx
    refine vx_vm (A := A) (names := aioUp) (nb := 70) hx hst (by decide) (by decide) (by decide) (by decide) (fun w hw => (aio_in w hw).elim (hta w) (fun q => va_Nw.use (ride_on q.2) (xn_of hN q.1 q.2))) aio_good hE.2.2.2.2.2.2.1.1 hE.2.2.2.2.2.2.1.2 va_S.rf (hl.1.trans hml.symm) (aio_txt n h20).1 (aio_txt n h20).2 (by decide) (by decide) (by show _ + 10240 ≤ 10300; omega) (by decide) (by decide) (by decide) B.notSynchronized (fun H1 q9 ce z1 o1 hS g1 g2 g3 => ?_)
    exact vx_out (E := aioN) (fun x hx => (htb x hx).elim) B.notSynchronized g1 g2 g3 (fun t ht hW => ⟨(), trivial, ⟨rfl, by show va_P _ _ _ t.heap; rw [ht]; exact hP.kept (fun k x hx => o1 x.1 (hP k x hx).lt)⟩, hS.F ht⟩) hS.2.2 (by decide) (by decide)
  have e255 : (255 : Int32) = 255 := rfl
  refine lv_aload_n hx hb dX0_whole_0 rfl (lv_at hl 0 rfl) ?_
  refine lv_iload_n hx hb dX0_whole_1 rfl (lv_at hl 1 rfl) ?_
  refine va_bald hx hb hK hP i0 1 he rfl hin dX0_whole_2 ?_
  refine lv_bipush (v := 24) hx hb dX0_whole_3 (by decide +kernel) ?_
  refine lv_ishl hx hb dX0_whole_5 ?_
  refine lv_aload_n hx hb dX0_whole_6 rfl (lv_at hl 0 rfl) ?_
  refine lv_iload_n hx hb dX0_whole_7 rfl (lv_at hl 1 rfl) ?_
  refine lv_iconst (v := 1) hx hb dX0_whole_8 (by decide +kernel) ?_
  refine lv_iadd hx hb dX0_whole_9 ?_
  by_cases w1 : vp_in (a1 + 1) n
  case neg => exact vx_baldZ hx hb hK hP i0 1 he rfl w1 dX0_whole_10 (fun tx htx => OUT _ _ (Nat.le_of_ble_eq_true rfl) tx (by rw [htx, in_next h20 hin w1]; rfl))
  refine va_bald hx hb hK hP i0 1 he rfl w1 dX0_whole_10 ?_
  refine lv_sipush (v := 255) hx hb dX0_whole_11 (by decide +kernel) ?_
  refine lv_iand hx hb dX0_whole_14 ?_
  refine lv_bipush (v := 16) hx hb dX0_whole_15 (by decide +kernel) ?_
  refine lv_ishl hx hb dX0_whole_17 ?_
  refine lv_ior hx hb dX0_whole_18 ?_
  refine lv_aload_n hx hb dX0_whole_19 rfl (lv_at hl 0 rfl) ?_
  refine lv_iload_n hx hb dX0_whole_20 rfl (lv_at hl 1 rfl) ?_
  refine lv_iconst (v := 2) hx hb dX0_whole_21 (by decide +kernel) ?_
  refine lv_iadd hx hb dX0_whole_22 ?_
  have e2 : a1 + 2 = a1 + 1 + 1 := by rw [Int32.add_assoc]; rfl
  have e3 : a1 + 3 = a1 + 2 + 1 := by rw [Int32.add_assoc]; rfl
  by_cases w2 : vp_in (a1 + 2) n
  case neg => exact vx_baldZ hx hb hK hP i0 1 he rfl w2 dX0_whole_23 (fun tx htx => OUT _ _ (Nat.le_of_ble_eq_true rfl) tx (by rw [htx, e2, in_next h20 w1 (e2 ▸ w2)]; rfl))
  refine va_bald hx hb hK hP i0 1 he rfl w2 dX0_whole_23 ?_
  refine lv_sipush (v := 255) hx hb dX0_whole_24 (by decide +kernel) ?_
  refine lv_iand hx hb dX0_whole_27 ?_
  refine lv_bipush (v := 8) hx hb dX0_whole_28 (by decide +kernel) ?_
  refine lv_ishl hx hb dX0_whole_30 ?_
  refine lv_ior hx hb dX0_whole_31 ?_
  refine lv_aload_n hx hb dX0_whole_32 rfl (lv_at hl 0 rfl) ?_
  refine lv_iload_n hx hb dX0_whole_33 rfl (lv_at hl 1 rfl) ?_
  refine lv_iconst (v := 3) hx hb dX0_whole_34 (by decide +kernel) ?_
  refine lv_iadd hx hb dX0_whole_35 ?_
  have w3 : ¬ vp_in (a1 + 3) n := fun q => hw ⟨w1, w2, q⟩
  exact vx_baldZ hx hb hK hP i0 1 he rfl w3 dX0_whole_36 (fun tx htx => OUT _ _ (Nat.le_of_ble_eq_true rfl) tx (by rw [htx, e3, in_next h20 w2 (e3 ▸ w3)]; rfl))
noncomputable def fX0_row_98 (a3 : Int32) (σ : St) (η : Eta) : Option (Int32 × St × Eta) := ckX η (bn2 (fX0_told a3 (σ)) (fun r1 σ2 => some (r1, σ2, η)))
noncomputable def fX0_row_67 (a1 : Int32) (a2 : Nat) (a3 : Int32) (t0 : Int32) (σ : St) (η : Eta) : Option ((Int32 × St × Eta) ⊕ (Int32 × St × Eta)) := ckX η (bn1 (fX0_isIron t0) (fun r1 => if r1 = 0 then ckB a3 5 (letB (pA σ 3 a3.toNatClampNeg 1) (fun σ4 => letB (a3 + 1) (fun x5 => some (.inr (x5, σ4, η))))) else ckB a3 5 (letB (pA σ 3 a3.toNatClampNeg t0) (fun σ7 => letB (a3 + 1) (fun x8 => some (.inr (x8, σ7, η)))))))
noncomputable def bX0_row_53 (a1 : Int32) (a2 : Nat) (a3 : Int32) (σ : St) (η : Eta) : Option (((Int32 × St × Eta) ⊕ (Int32 × St × Eta)) ⊕ (Int32 × St × Eta)) := ckX η (if a1 ≤ (4 * a3) then some (.inl (.inl (a3, σ, η))) else ckI 1 (η.1 a2) (fun n_ => ckP (n_ ≤ 20) (ckB (4 * a3) n_ (ckWh (4 * a3) n_ (some (.inl (.inr (a3, σ, η)))) (bn3 (fX0_whole a2 (4 * a3) (σ) (η)) (fun r2 σ3 η4 => sX0_row (fX0_row_67 a1 a2 a3 r2 (σ3) (η4))))))))
noncomputable def fX0_row_101 (a3 : Int32) (σ : St) (η : Eta) : Option (Int32 × St × Eta) := ckX η (bn2 (fX0_told a3 σ) (fun r σ2 => some (r, σ2, η)))
noncomputable def xX0_row_53 (ex : (Int32 × St × Eta) ⊕ (Int32 × St × Eta)) : Option (Int32 × St × Eta) := match ex with
  | (.inl (b3, σ', η')) => fX0_row_98 b3 (σ') (η')
  | (.inr (b3, σ', η')) => fX0_row_101 b3 (σ') (η')
noncomputable def fX0_row_53 (a1 : Int32) (a2 : Nat) (a3 : Int32) (σ : St) (η : Eta) : Option (Int32 × St × Eta) := bn1 (iter (fun v : Int32 × St × Eta => bX0_row_53 a1 a2 v.1 v.2.1 v.2.2) FU (a3, σ, η)) (fun ex => xX0_row_53 ex)
noncomputable def fX0_row_39 (a1 : Int32) (t0 : Nat) (σ : St) (η : Eta) : Option (Int32 × St × Eta) := ckX η (ckI 1 (η.1 t0) (fun n_1 => ckC 0 0 a1 400 n_1 (ckP (obB σ a1.toNatClampNeg) (letB (pC (σ) 11 t0 (0 : Int32).toNatClampNeg (0 : Int32).toNatClampNeg a1.toNatClampNeg) (fun σ4 => fX0_row_53 a1 t0 0 (σ4) (η))))))
noncomputable def fX0_row_0 (σ : St) (η : Eta) : Option (Int32 × St × Eta) := ckX η (letB (gI σ 0 5) (fun x1 => letB (pI σ 0 5 0) (fun σ2 => if x1 = 0 then bn2 (fX0_refuse (-6) (σ2)) (fun r4 σ5 => some (r4, σ5, η)) else if ((x1 + 3) / 4) ≤ (gI σ2 2 5) then ckW x1 (fX0_row_39 x1 (η.2.1) (aS (σ2) η.2.1) (aE η (1, 1, x1.toNatClampNeg, []) x1.toNatClampNeg)) else bn2 (fX0_refuse (-6) (σ2)) (fun r8 σ9 => some (r8, σ9, η)))))
noncomputable def fX0_row (σ : St) (η : Eta) : Option (Int32 × St × Eta) := fX0_row_0 σ η
section
variable {p : Program} {l : Launch} {e : Env} {s : State} {m : MethodId} {args : Array Value} {below : List Frame} {meth : Method} {c : Code} {Q : State → Prop} {ad : Nat → Nat} {dc : Nat → ClassId} {D : va_G} {A : Nat → Prop} {n0 z0 N1 Z1 : Nat}
-- X0_row
abbrev FrX0_row : Nat := 40
abbrev LoX0_row : Nat := 10600
theorem hdX0_row : yX0_row.cls = RX0 ∧ yX0_row.cls ≠ "java/lang/invoke/MethodHandle" ∧ yX0_row.cls ≠ "java/lang/invoke/VarHandle" ∧ (parseMethodDescriptor yX0_row.desc).map (fun d => d.parameters.length) = some 0 := by decide +kernel
theorem mofX0_row_98 {a3 : Int32} {σ : St} {η : Eta} {o : Int32 × St × Eta} (h : fX0_row_98 a3 σ η = some o) : EX η o.2.2 := by
  unfold fX0_row_98 at h
  obtain ⟨hX, h⟩ := ckX_e h
  obtain ⟨r1, σ2, h_r1, h⟩ := bn2_e h
  cases h
  exact EX.rf
set_option maxHeartbeats 400000 in
theorem wX0_row_98 (C0 : Cx ad dc D RX0 cX0_row 5 p s m args meth c) (a3 : Int32) (σ : St) (η : Eta) (hnm : meth.name = yX0_row.name) (hfl : l.flags = flags0) (hT : c.exceptionTable.toList = tableOf [(53, 98, 101, 150)]) (o : Int32 × St × Eta) (h : fX0_row_98 a3 σ η = some o) (Kr : KrAI p l e (RA FrX0_row LoX0_row (N1 + 3) (Z1 + 80)) s m args below meth c cX0_row Q (GW o.2.2.1 (ksOf o.2.2) ad dc D A s o.2.1) (N1 + 3) (Z1 + 80) o.1) (hN : o.2.2.2.1 ≤ n0 + N1 ∧ o.2.2.2.2 ≤ z0 + Z1) (H : Heap) (locs : List Loc) (ls : Array Slot) (cells slots : Nat) (hl : lv_has ls 5 [(0, .ref (ad 0)), (3, .int a3)]) (G : GW η.1 (ksOf η) ad dc D A s σ H locs) (E : EA ad dc A s n0 z0 η cells slots) : W p l e (RA FrX0_row LoX0_row (N1 + 3) (Z1 + 80)) s m args below meth c H locs cells slots Q (F0 m 98 ls []) := by
  have hx := C0.1
  have hb := C0.2.1
  have hcz := a_le E (mofX0_row_98 h) hN
  unfold fX0_row_98 at h
  obtain ⟨hX, h⟩ := ckX_e h
  refine lv_goto (tgt := 109) hx hb dX0_row_98 (by decide) ?_
  refine lv_aload_n hx hb dX0_row_109 rfl (lv_at hl 0 rfl) ?_
  refine lv_iload_n hx hb dX0_row_110 rfl (lv_at hl 1 rfl) ?_
  obtain ⟨r1, σ2, h_r1, h⟩ := bn2_e h
  refine g_callVi (rest := []) C0 G hl (ci := 0) rfl (hX.1 0 (by decide)) (fl := xFlX0) ((hX.2.1 0 (by decide)).trans rfl) (kX0_told (l := l) C0.2.2.2.2.2.2.1 G.2.2.1 G.2.2.2 hX h_r1) (cwV 1 C0.2.2.2.2.1 (lw_V q604 q606 qs3 q105 q607) rfl rfl rfl hdX0_told ⟨Nat.le_of_ble_eq_true rfl, Nat.le_of_ble_eq_true rfl⟩) rfl (Nat.le_of_ble_eq_true rfl) dX0_row_111 (a_w3 hcz) (fun H locs G => ?_)
  cases h
  have hce := a_end E hN
  refine W.widen (k := N1 + 3) (n := Z1 + 80) (Nat.le_trans hce.1 (Nat.le_add_right _ _)) (Nat.le_trans hce.2 (Nat.le_add_right _ _)) ?_
  exact Kr _ _ _ _ dX0_row_114 G
theorem mofX0_row_67 {a1 : Int32} {a2 : Nat} {a3 : Int32} {t0 : Int32} {σ : St} {η : Eta} {o : (Int32 × St × Eta) ⊕ (Int32 × St × Eta)} (h : fX0_row_67 a1 a2 a3 t0 σ η = some o) : EX η (Sum.elim (fun v : Int32 × St × Eta => v.2.2) (fun v : Int32 × St × Eta => v.2.2) o) := by
  unfold fX0_row_67 at h
  obtain ⟨hX, h⟩ := ckX_e h
  obtain ⟨r1, h_r1, h⟩ := bn1_e h
  rcases (Classical.em (r1 = 0)) with c2 | c2
  · have h := ite_t h c2
    obtain ⟨b_3, h⟩ := ckB_e h
    obtain ⟨σ4, e_σ4⟩ : ∃ z : St, z = pA σ 3 a3.toNatClampNeg 1 := ⟨_, rfl⟩
    have h := letB_e h e_σ4
    obtain ⟨x5, e_x5⟩ : ∃ z : Int32, z = a3 + 1 := ⟨_, rfl⟩
    have h := letB_e h e_x5
    cases h
    exact EX.rf
  · have h := ite_f h c2
    obtain ⟨b_6, h⟩ := ckB_e h
    obtain ⟨σ7, e_σ7⟩ : ∃ z : St, z = pA σ 3 a3.toNatClampNeg t0 := ⟨_, rfl⟩
    have h := letB_e h e_σ7
    obtain ⟨x8, e_x8⟩ : ∃ z : Int32, z = a3 + 1 := ⟨_, rfl⟩
    have h := letB_e h e_x8
    cases h
    exact EX.rf
set_option maxHeartbeats 400000 in
theorem wX0_row_67 (C0 : Cx ad dc D RX0 cX0_row 5 p s m args meth c) (a1 : Int32) (a2 : Nat) (a3 : Int32) (t0 : Int32) (σ : St) (η : Eta) (hnm : meth.name = yX0_row.name) (hfl : l.flags = flags0) (hT : c.exceptionTable.toList = tableOf [(53, 98, 101, 150)]) (o : (Int32 × St × Eta) ⊕ (Int32 × St × Eta)) (h : fX0_row_67 a1 a2 a3 t0 σ η = some o) (Kb : ∀ (b3 : Int32) (σ' : St) (η' : Eta), o = .inr (b3, σ', η') → ∀ (H : Heap) (locs : List Loc) (ls : Array Slot) (cells slots : Nat), lv_has ls 5 [(0, .ref (ad 0)), (1, .int a1), (2, .ref (ad a2)), (3, .int b3)] → GW η'.1 (ksOf η') ad dc D A s σ' H locs → EA ad dc A s n0 z0 η' cells slots → W p l e (RA FrX0_row LoX0_row (N1 + 3) (Z1 + 80)) s m args below meth c H locs cells slots Q (F0 m 53 ls [])) (Ke0 : ∀ (b3 : Int32) (σ' : St) (η' : Eta), o = .inl (b3, σ', η') → ∀ (H : Heap) (locs : List Loc) (ls : Array Slot) (cells slots : Nat), lv_has ls 5 [(0, .ref (ad 0)), (3, .int b3)] → GW η'.1 (ksOf η') ad dc D A s σ' H locs → EA ad dc A s n0 z0 η' cells slots → W p l e (RA FrX0_row LoX0_row (N1 + 3) (Z1 + 80)) s m args below meth c H locs cells slots Q (F0 m 98 ls [])) (hN : (Sum.elim (fun v : Int32 × St × Eta => v.2.2) (fun v : Int32 × St × Eta => v.2.2) o).2.1 ≤ n0 + N1 ∧ (Sum.elim (fun v : Int32 × St × Eta => v.2.2) (fun v : Int32 × St × Eta => v.2.2) o).2.2 ≤ z0 + Z1) (H : Heap) (locs : List Loc) (ls : Array Slot) (cells slots : Nat) (hl : lv_has ls 5 [(0, .ref (ad 0)), (1, .int a1), (2, .ref (ad a2)), (3, .int a3)]) (G : GW η.1 (ksOf η) ad dc D A s σ H locs) (E : EA ad dc A s n0 z0 η cells slots) : W p l e (RA FrX0_row LoX0_row (N1 + 3) (Z1 + 80)) s m args below meth c H locs cells slots Q (F0 m 67 ls [.int t0]) := by
  have hx := C0.1
  have hb := C0.2.1
  have hcz := a_le E (mofX0_row_67 h) hN
  unfold fX0_row_67 at h
  obtain ⟨hX, h⟩ := ckX_e h
  refine lv_istore (lv' := [(4, .int t0), (0, .ref (ad 0)), (1, .int a1), (2, .ref (ad a2)), (3, .int a3)]) hx hb dX0_row_67 hl (by decide) rfl (fun ls hl => ?_)
  refine lv_aload_n hx hb dX0_row_69 rfl (lv_at hl 1 rfl) ?_
  refine g_getC C0 G in_X0 (ci := 0) rfl (hX.1 0 (by decide)) (fl := xFlX0) ((hX.2.1 0 (by decide)).trans rfl) 2 (by decide) rfl q438 dX0_row_70 ?_
  refine g_getCN C0 G in_X1 (ci := 1) rfl (hX.1 2 (by decide)) (fl := xFlX1) ((hX.2.1 2 (by decide)).trans rfl) 0 (by decide) rfl (xn_of C0.2.2.2.2.2.2.2.1 q193 rfl) dX0_row_73 ?_
  refine lv_iload_n hx hb dX0_row_76 rfl (lv_at hl 4 rfl) ?_
  refine lv_iload hx hb dX0_row_77 (lv_at hl 0 rfl) ?_
  obtain ⟨r1, h_r1, h⟩ := bn1_e h
  refine g_callSi (rest := [.int a3, .ref (ad 3)]) C0 G hl (kX0_isIron (l := l) C0.2.2.2.2.2.2.1 G.2.2.1 G.2.2.2 hX h_r1) (va_cwS 1 C0.2.2.2.2.1 (lw_S q624 q625 q105 q626) rfl rfl rfl hdX0_isIron ⟨Nat.le_of_ble_eq_true rfl, Nat.le_of_ble_eq_true rfl⟩) rfl (Nat.le_of_ble_eq_true rfl) dX0_row_79 (a_w3 hcz) (fun H locs G => ?_)
  refine lv_if_eq (tgt := 90) hx hb dX0_row_82 (by decide) (fun c2 => ?_) (fun c2 => ?_)
  · have h := ite_t h c2
    refine lv_iconst (v := 1) hx hb dX0_row_90 (by decide +kernel) ?_
    obtain ⟨b_3, h⟩ := ckB_e h
    refine g_iast C0 G (n := 5) (hX.1 3 (by decide)) ((hX.2.1 3 (by decide)).trans rfl) b_3 dX0_row_91 (fun σ4 H locs e_σ4 G => ?_)
    have h := letB_e h e_σ4
    obtain ⟨x5, e_x5⟩ : ∃ z : Int32, z = a3 + 1 := ⟨_, rfl⟩
    have h := letB_e h e_x5
    refine lv_iinc (v := x5) (lv' := [(3, .int x5), (4, .int t0), (0, .ref (ad 0)), (1, .int a1), (2, .ref (ad a2))]) hx hb dX0_row_92 hl (k := 4) rfl ((congrArg (fun z => a3 + z) (show Int32.ofInt 1 = 1 by decide)).trans e_x5.symm) (by decide) rfl (fun ls hl => ?_)
    refine lv_goto (tgt := 53) hx hb dX0_row_95 (by decide) ?_
    cases h
    exact Kb x5 (σ4) (η) rfl _ _ _ _ _ (lv_sub hl [2, 3, 4, 0] rfl) G E
  · have h := ite_f h c2
    refine lv_iload hx hb dX0_row_85 (lv_at hl 0 rfl) ?_
    refine lv_goto (tgt := 91) hx hb dX0_row_87 (by decide) ?_
    obtain ⟨b_6, h⟩ := ckB_e h
    refine g_iast C0 G (n := 5) (hX.1 3 (by decide)) ((hX.2.1 3 (by decide)).trans rfl) b_6 dX0_row_91 (fun σ7 H locs e_σ7 G => ?_)
    have h := letB_e h e_σ7
    obtain ⟨x8, e_x8⟩ : ∃ z : Int32, z = a3 + 1 := ⟨_, rfl⟩
    have h := letB_e h e_x8
    refine lv_iinc (v := x8) (lv' := [(3, .int x8), (4, .int t0), (0, .ref (ad 0)), (1, .int a1), (2, .ref (ad a2))]) hx hb dX0_row_92 hl (k := 4) rfl ((congrArg (fun z => a3 + z) (show Int32.ofInt 1 = 1 by decide)).trans e_x8.symm) (by decide) rfl (fun ls hl => ?_)
    refine lv_goto (tgt := 53) hx hb dX0_row_95 (by decide) ?_
    cases h
    exact Kb x8 (σ7) (η) rfl _ _ _ _ _ (lv_sub hl [2, 3, 4, 0] rfl) G E
/-- the call of whole that throws -/
theorem x_wholeS (C0 : Cx ad dc D RX0 cX0_row 5 p s m args meth c) (hfl : l.flags = flags0) {H : Heap} {locs : List Loc} {ls : Array Slot} {cells slots : Nat} {R : Room} {σ : St} {η : Eta} {lv : List (Nat × Value)} {pc idx a0 n : Nat} {a1 : Int32} (G : GW η.1 (ksOf η) ad dc D A s σ H locs) (E : EA ad dc A s n0 z0 η cells slots) (hl : lv_has ls 5 lv) (hs : η.1 a0 = (1, 1, n, [])) (h20 : n ≤ 20) (hin : vp_in a1 n) (hw : ¬ (vp_in (a1 + 1) n ∧ vp_in (a1 + 2) n ∧ vp_in (a1 + 3) n))
    (h1 : Cond.methodLink RX0 idx yX0_whole ∈ lw_all) (h2 : Cond.static yX0_whole ∈ lw_all) (h3 : Cond.initialized yX0_whole.cls ∈ lw_all) (h4 : Cond.code yX0_whole cX0_whole 2 (some .int) ∈ lw_all) (hdg : decode cX0_row pc = .ok (.invokestatic idx, 3)) (hf : cells + 3 ≤ R.cells ∧ slots + 80 ≤ R.slots) (hR : 20 + 1 ≤ R.frames ∧ 8 + (2 + 11) + 10300 ≤ R.locals)
    (kk : ∀ (H1 : Heap) (locs1 : List Loc) (q : Nat) (ce : Cell), GW η.1 (ksOf η) ad dc D A s σ H1 locs1 → H1[q]? = some ce → ce.vm = .none → s.vm.findClass aioN = some ce.cls → vx_W p l e R s m args below meth c H1 locs1 (cells + 3) (slots + 80) Q (F0 m pc ls []) q) : W p l e R s m args below meth c H locs cells slots Q (F0 m pc ls [.int a1, .ref (ad a0)]) := by
  refine W_size fun hsz => ?_
  intro T hT X
  rcases (vx_runS (cc := cX0_row) (As := [.ref (ad a0), .int a1]) (rest := []) ⟨C0.1, C0.2.1, C0.2.2.1, C0.2.2.2.1, C0.2.2.2.2.1⟩ (kxX0_whole (l := l) hfl C0.2.2.2.2.2.2.1 G.2.2.2 hs h20 hin hw) (va_cwS 2 C0.2.2.2.2.1 (lw_S h1 h2 h3 h4) rfl rfl rfl hdX0_whole hR) (a_pc C0 G E hsz) (g := F0 m pc ls [.int a1, .ref (ad a0)]) rfl rfl hl.1 rfl (lv_room (Nat.le_of_ble_eq_true rfl)) hdg hf) T hT X with ⟨v, st₀, t, T', L, h0, X', hL, e1, e2, hq, st⟩ | ⟨q9, st₀, t, T', L, E9, ce, h0, X', hL, e1, e2, ⟨u, hp, hb, hF⟩, hce, hcv, hcl, st⟩
  · exact hq.elim
  · obtain ⟨k1, k2, k3⟩ := vx_keep h0 e1 G.2.1 (fun _ _ h => h) (fun _ h => h) hL hF
    obtain ⟨rfl, hB⟩ := hb
    obtain ⟨t2, a1, b1⟩ := kk _ _ _ _ ⟨(e1.symm ▸ hB : va_P D vwCl _ T'.heap), k3, G.2.2⟩ (by rw [e1]; exact hce) hcv hcl T' rfl X'
    exact ⟨t2, st.trans a1, b1⟩
theorem mobX0_row_53 {a1 : Int32} {a2 : Nat} {a3 : Int32} {σ : St} {η : Eta} {o : ((Int32 × St × Eta) ⊕ (Int32 × St × Eta)) ⊕ (Int32 × St × Eta)} (h : bX0_row_53 a1 a2 a3 σ η = some o) : EX η (Sum.elim (fun v : (Int32 × St × Eta) ⊕ (Int32 × St × Eta) => (Sum.elim (fun v : Int32 × St × Eta => v.2.2) (fun v : Int32 × St × Eta => v.2.2) v)) (fun v : Int32 × St × Eta => v.2.2) o) := by
  unfold bX0_row_53 at h
  obtain ⟨hX, h⟩ := ckX_e h
  rcases (Classical.em (a1 ≤ (4 * a3))) with c1 | c1
  · have h := ite_t h c1
    cases h
    exact EX.rf
  · have h := ite_f h c1
    obtain ⟨n_, hs_, h⟩ := ckI_e h
    obtain ⟨h20, h⟩ := ckP_e h
    obtain ⟨b0_, h⟩ := ckB_e h
    rcases ckWh_e h with ⟨hw_, h⟩ | ⟨hw_, h⟩
    · cases h
      exact EX.rf
    · obtain ⟨r2, σ3, η4, h_5, h⟩ := bn3_e h
      have m_η4 : EX η η4 := mofX0_whole h_5
      rcases sX0_row_e h with ⟨v, h6, e_⟩ | ⟨v, h6, e_⟩
      · subst e_; exact EX.tr m_η4 (mofX0_row_67 h6)
      · subst e_; exact EX.tr m_η4 (mofX0_row_67 h6)
set_option maxHeartbeats 400000 in
theorem wbX0_row_53 (C0 : Cx ad dc D RX0 cX0_row 5 p s m args meth c) (a1 : Int32) (a2 : Nat) (a3 : Int32) (σ : St) (η : Eta) (hnm : meth.name = yX0_row.name) (hfl : l.flags = flags0) (hT : c.exceptionTable.toList = tableOf [(53, 98, 101, 150)]) (o : ((Int32 × St × Eta) ⊕ (Int32 × St × Eta)) ⊕ (Int32 × St × Eta)) (h : bX0_row_53 a1 a2 a3 σ η = some o) (Kb : ∀ (b3 : Int32) (σ' : St) (η' : Eta), o = .inr (b3, σ', η') → ∀ (H : Heap) (locs : List Loc) (ls : Array Slot) (cells slots : Nat), lv_has ls 5 [(0, .ref (ad 0)), (1, .int a1), (2, .ref (ad a2)), (3, .int b3)] → GW η'.1 (ksOf η') ad dc D A s σ' H locs → EA ad dc A s n0 z0 η' cells slots → W p l e (RA FrX0_row LoX0_row (N1 + 3) (Z1 + 80)) s m args below meth c H locs cells slots Q (F0 m 53 ls [])) (Ke0 : ∀ (b3 : Int32) (σ' : St) (η' : Eta), o = .inl (.inl (b3, σ', η')) → ∀ (H : Heap) (locs : List Loc) (ls : Array Slot) (cells slots : Nat), lv_has ls 5 [(0, .ref (ad 0)), (3, .int b3)] → GW η'.1 (ksOf η') ad dc D A s σ' H locs → EA ad dc A s n0 z0 η' cells slots → W p l e (RA FrX0_row LoX0_row (N1 + 3) (Z1 + 80)) s m args below meth c H locs cells slots Q (F0 m 98 ls [])) (Ke1 : ∀ (b3 : Int32) (σ' : St) (η' : Eta), o = .inl (.inr (b3, σ', η')) → ∀ (H : Heap) (locs : List Loc) (ls : Array Slot) (cells slots q : Nat), lv_has ls 5 [(0, .ref (ad 0)), (3, .int b3)] → GW η'.1 (ksOf η') ad dc D A s σ' H locs → cells ≤ N1 + 3 → slots ≤ Z1 + 80 → W p l e (RA FrX0_row LoX0_row (N1 + 3) (Z1 + 80)) s m args below meth c H locs cells slots Q (F0 m 101 ls [.ref q])) (hN : (Sum.elim (fun v : (Int32 × St × Eta) ⊕ (Int32 × St × Eta) => (Sum.elim (fun v : Int32 × St × Eta => v.2.2) (fun v : Int32 × St × Eta => v.2.2) v)) (fun v : Int32 × St × Eta => v.2.2) o).2.1 ≤ n0 + N1 ∧ (Sum.elim (fun v : (Int32 × St × Eta) ⊕ (Int32 × St × Eta) => (Sum.elim (fun v : Int32 × St × Eta => v.2.2) (fun v : Int32 × St × Eta => v.2.2) v)) (fun v : Int32 × St × Eta => v.2.2) o).2.2 ≤ z0 + Z1) (H : Heap) (locs : List Loc) (ls : Array Slot) (cells slots : Nat) (hl : lv_has ls 5 [(0, .ref (ad 0)), (1, .int a1), (2, .ref (ad a2)), (3, .int a3)]) (G : GW η.1 (ksOf η) ad dc D A s σ H locs) (E : EA ad dc A s n0 z0 η cells slots) : W p l e (RA FrX0_row LoX0_row (N1 + 3) (Z1 + 80)) s m args below meth c H locs cells slots Q (F0 m 53 ls []) := by
  have hx := C0.1
  have hb := C0.2.1
  have hcz := a_le E (mobX0_row_53 h) hN
  unfold bX0_row_53 at h
  obtain ⟨hX, h⟩ := ckX_e h
  refine lv_iconst (v := 4) hx hb dX0_row_53 (by decide +kernel) ?_
  refine lv_iload_n hx hb dX0_row_54 rfl (lv_at hl 3 rfl) ?_
  refine lv_imul hx hb dX0_row_55 ?_
  refine lv_iload_n hx hb dX0_row_56 rfl (lv_at hl 1 rfl) ?_
  refine lv_icmp_ge (tgt := 98) hx hb dX0_row_57 (by decide) (fun c1 => ?_) (fun c1 => ?_)
  · have h := ite_t h c1
    cases h
    exact Ke0 a3 (σ) (η) rfl _ _ _ _ _ (lv_sub hl [0, 3] rfl) G E
  · have h := ite_f h c1
    obtain ⟨n_, hs_, h⟩ := ckI_e h
    obtain ⟨h20, h⟩ := ckP_e h
    obtain ⟨b0_, h⟩ := ckB_e h
    refine lv_aload_n hx hb dX0_row_60 rfl (lv_at hl 2 rfl) ?_
    refine lv_iconst (v := 4) hx hb dX0_row_61 (by decide +kernel) ?_
    refine lv_iload_n hx hb dX0_row_62 rfl (lv_at hl 3 rfl) ?_
    refine lv_imul hx hb dX0_row_63 ?_
    rcases ckWh_e h with ⟨hw_, h⟩ | ⟨hw_, h⟩
    · cases h
      refine x_wholeS C0 hfl G E hl hs_ h20 b0_ hw_ q730 q731 q105 q732 dX0_row_64 ⟨Nat.add_le_add_right hcz.1 3, Nat.add_le_add_right hcz.2 80⟩ ⟨Nat.le_of_ble_eq_true rfl, Nat.le_of_ble_eq_true rfl⟩ (fun H locs qq ce_ G g1_ g2_ g3_ => ?_)
      refine vx_catch C0.2.2.2.1 [] ⟨53, 98, 101, 150⟩ [] hT (fun z hz => nomatch hz) (by decide) (by decide) (C0.2.2.2.2.1 _ q655) (va_Nw.use rfl (xn_of C0.2.2.2.2.2.2.2.1 q705 rfl)) g1_ g2_ g3_ ?_
      exact Ke1 a3 σ η rfl _ _ _ _ _ _ (lv_sub hl [0, 3] rfl) G (Nat.add_le_add_right hcz.1 3) (Nat.add_le_add_right hcz.2 80)
    · obtain ⟨r2, σ3, η4, h_5, h⟩ := bn3_e h
      have m_η4 : EX η η4 := mofX0_whole h_5
      rcases sX0_row_e h with ⟨v, h6, e_⟩ | ⟨v, h6, e_⟩
      all_goals
        subst e_
        refine a_callSi (rest := []) C0 G E hl m_η4 (kX0_whole (l := l) C0.2.2.2.2.2.2.1 G.2.2.2 h_5) (va_cwS 2 C0.2.2.2.2.1 (lw_S q730 q731 q105 q732) rfl rfl rfl hdX0_whole ⟨Nat.le_of_ble_eq_true rfl, Nat.le_of_ble_eq_true rfl⟩) rfl (Nat.le_of_ble_eq_true rfl) dX0_row_64 (a_w3 (a_lec E m_η4 (mofX0_row_67 h6) hN)) (fun H locs G E => ?_)
        exact wX0_row_67 C0 a1 a2 a3 r2 (σ3) (η4) hnm hfl hT _ h6 (fun b3 σ' η' he => Kb b3 σ' η' (by cases he <;> rfl)) (fun b3 σ' η' he => Ke0 b3 σ' η' (by cases he <;> rfl)) hN _ _ _ _ _ hl G E
theorem mofX0_row_101 {a3 : Int32} {σ : St} {η : Eta} {o : Int32 × St × Eta} (h : fX0_row_101 a3 σ η = some o) : EX η o.2.2 := by
  unfold fX0_row_101 at h
  obtain ⟨hX, h⟩ := ckX_e h
  obtain ⟨r1, σ2, h_r1, h⟩ := bn2_e h
  cases h
  exact EX.rf
theorem wX0_row_101 (C0 : Cx ad dc D RX0 cX0_row 5 p s m args meth c) (a3 : Int32) (σ : St) (η : Eta) (o : Int32 × St × Eta) (h : fX0_row_101 a3 σ η = some o) (Kr : KrAI p l e (RA FrX0_row LoX0_row (N1 + 3) (Z1 + 80)) s m args below meth c cX0_row Q (GW o.2.2.1 (ksOf o.2.2) ad dc D A s o.2.1) (N1 + 3) (Z1 + 80) o.1) (H : Heap) (locs : List Loc) (ls : Array Slot) (cells slots q : Nat) (hl : lv_has ls 5 [(0, .ref (ad 0)), (3, .int a3)]) (G : GW η.1 (ksOf η) ad dc D A s σ H locs) (hc : cells ≤ N1 + 3) (hz : slots ≤ Z1 + 80) : W p l e (RA FrX0_row LoX0_row (N1 + 3) (Z1 + 80)) s m args below meth c H locs cells slots Q (F0 m 101 ls [.ref q]) := by
  have hx := C0.1
  have hb := C0.2.1
  unfold fX0_row_101 at h
  obtain ⟨hX, h⟩ := ckX_e h
  obtain ⟨r1, σ2, h_r1, h⟩ := bn2_e h
  refine lv_astore (lv' := [(4, .ref q), (0, .ref (ad 0)), (3, .int a3)]) hx hb dX0_row_101 hl (by decide) rfl (fun ls hl => ?_)
  refine lv_aload_n hx hb dX0_row_103 rfl (lv_at hl 1 rfl) ?_
  refine lv_iload_n hx hb dX0_row_104 rfl (lv_at hl 2 rfl) ?_
  refine g_callVi (rest := []) C0 G hl (ci := 0) rfl (hX.1 0 (by decide)) (fl := xFlX0) ((hX.2.1 0 (by decide)).trans rfl) (kX0_told (l := l) C0.2.2.2.2.2.2.1 G.2.2.1 G.2.2.2 hX h_r1) (cwV 1 C0.2.2.2.2.1 (lw_V q604 q606 qs3 q105 q607) rfl rfl rfl hdX0_told ⟨Nat.le_of_ble_eq_true rfl, Nat.le_of_ble_eq_true rfl⟩) rfl (Nat.le_of_ble_eq_true rfl) dX0_row_105 ⟨hc, hz⟩ (fun H locs G => ?_)
  cases h
  refine W.widen (k := N1 + 3) (n := Z1 + 80) hc hz ?_
  exact Kr _ _ _ _ dX0_row_108 G
theorem moxX0_row_53 {ex : (Int32 × St × Eta) ⊕ (Int32 × St × Eta)} {o : Int32 × St × Eta} (h : xX0_row_53 ex = some o) : EX ((fun v : (Int32 × St × Eta) ⊕ (Int32 × St × Eta) => (Sum.elim (fun v : Int32 × St × Eta => v.2.2) (fun v : Int32 × St × Eta => v.2.2) v)) ex) o.2.2 := by
  rcases ex with ⟨b3, σ', η'⟩ | ⟨b3, σ', η'⟩
  · exact mofX0_row_98 h
  · exact mofX0_row_101 h
theorem mofX0_row_53 {a1 : Int32} {a2 : Nat} {a3 : Int32} {σ : St} {η : Eta} {o : Int32 × St × Eta} (h : fX0_row_53 a1 a2 a3 σ η = some o) : EX η o.2.2 := by
  unfold fX0_row_53 at h
  obtain ⟨ex, h1, h⟩ := bn1_e h
  exact EX.tr (mo_iter (ga := (fun v : Int32 × St × Eta => v.2.2)) (gb := (fun v : (Int32 × St × Eta) ⊕ (Int32 × St × Eta) => (Sum.elim (fun v : Int32 × St × Eta => v.2.2) (fun v : Int32 × St × Eta => v.2.2) v))) (fun a o h => mobX0_row_53 h) FU _ ex h1) (moxX0_row_53 h)
set_option maxHeartbeats 400000 in
theorem lX0_row_53 (C0 : Cx ad dc D RX0 cX0_row 5 p s m args meth c) (a1 : Int32) (a2 : Nat) (hfl : l.flags = flags0) (hnm : meth.name = yX0_row.name) (hT : c.exceptionTable.toList = tableOf [(53, 98, 101, 150)]) : ∀ (n : Nat) (a3 : Int32) (σ : St) (η : Eta) (ex : (Int32 × St × Eta) ⊕ (Int32 × St × Eta)) (h : iter (fun v : Int32 × St × Eta => bX0_row_53 a1 a2 v.1 v.2.1 v.2.2) n (a3, σ, η) = some ex) (Ke0 : ∀ (b3 : Int32) (σ' : St) (η' : Eta), ex = .inl (b3, σ', η') → ∀ (H : Heap) (locs : List Loc) (ls : Array Slot) (cells slots : Nat), lv_has ls 5 [(0, .ref (ad 0)), (3, .int b3)] → GW η'.1 (ksOf η') ad dc D A s σ' H locs → EA ad dc A s n0 z0 η' cells slots → W p l e (RA FrX0_row LoX0_row (N1 + 3) (Z1 + 80)) s m args below meth c H locs cells slots Q (F0 m 98 ls [])) (Ke1 : ∀ (b3 : Int32) (σ' : St) (η' : Eta), ex = .inr (b3, σ', η') → ∀ (H : Heap) (locs : List Loc) (ls : Array Slot) (cells slots q : Nat), lv_has ls 5 [(0, .ref (ad 0)), (3, .int b3)] → GW η'.1 (ksOf η') ad dc D A s σ' H locs → cells ≤ N1 + 3 → slots ≤ Z1 + 80 → W p l e (RA FrX0_row LoX0_row (N1 + 3) (Z1 + 80)) s m args below meth c H locs cells slots Q (F0 m 101 ls [.ref q])) (hN : ((fun v : (Int32 × St × Eta) ⊕ (Int32 × St × Eta) => (Sum.elim (fun v : Int32 × St × Eta => v.2.2) (fun v : Int32 × St × Eta => v.2.2) v)) ex).2.1 ≤ n0 + N1 ∧ ((fun v : (Int32 × St × Eta) ⊕ (Int32 × St × Eta) => (Sum.elim (fun v : Int32 × St × Eta => v.2.2) (fun v : Int32 × St × Eta => v.2.2) v)) ex).2.2 ≤ z0 + Z1) (H : Heap) (locs : List Loc) (ls : Array Slot) (cells slots : Nat) (hl : lv_has ls 5 [(0, .ref (ad 0)), (1, .int a1), (2, .ref (ad a2)), (3, .int a3)]) (G : GW η.1 (ksOf η) ad dc D A s σ H locs) (E : EA ad dc A s n0 z0 η cells slots), W p l e (RA FrX0_row LoX0_row (N1 + 3) (Z1 + 80)) s m args below meth c H locs cells slots Q (F0 m 53 ls []) := by
  intro n
  induction n with
  | zero =>
    intro a3 σ η ex h
    cases h
  | succ n ih =>
    intro a3 σ η ex h Ke0 Ke1 hN H locs ls cells slots hl G E
    obtain ⟨r, hb1, hr⟩ := iter_e h
    have hNr : (Sum.elim (fun v : (Int32 × St × Eta) ⊕ (Int32 × St × Eta) => (Sum.elim (fun v : Int32 × St × Eta => v.2.2) (fun v : Int32 × St × Eta => v.2.2) v)) (fun v : Int32 × St × Eta => v.2.2) r).2.1 ≤ n0 + N1 ∧ (Sum.elim (fun v : (Int32 × St × Eta) ⊕ (Int32 × St × Eta) => (Sum.elim (fun v : Int32 × St × Eta => v.2.2) (fun v : Int32 × St × Eta => v.2.2) v)) (fun v : Int32 × St × Eta => v.2.2) r).2.2 ≤ z0 + Z1 := by
      rcases hr with hr | ⟨a', hr, h2⟩
      · rw [hr]; exact hN
      · rw [hr]; exact a_leq (mo_iter (ga := (fun v : Int32 × St × Eta => v.2.2)) (gb := (fun v : (Int32 × St × Eta) ⊕ (Int32 × St × Eta) => (Sum.elim (fun v : Int32 × St × Eta => v.2.2) (fun v : Int32 × St × Eta => v.2.2) v))) (fun a o h => mobX0_row_53 h) n a' ex h2) hN
    refine wbX0_row_53 C0 a1 a2 a3 σ η hnm hfl hT r hb1 ?_ ?_ ?_ hNr H locs ls cells slots hl G E
    · intro b3 σ' η' hv H locs ls cells slots hl G E
      subst hv
      rcases hr with hr | ⟨a', hr, h2⟩
      · cases hr
      · rw [← Sum.inr.inj hr] at h2
        exact ih b3 σ' η' ex h2 Ke0 Ke1 hN H locs ls cells slots hl G E
    · intro b3 σ' η' hv H locs ls cells slots hl G E
      subst hv
      rcases hr with hr | ⟨a', hr, h2⟩
      · exact Ke0 b3 σ' η' (Sum.inl.inj hr).symm H locs ls cells slots hl G E
      · cases hr
    · intro b3 σ' η' hv H locs ls cells slots q hl G hc hz
      subst hv
      rcases hr with hr | ⟨a', hr, h2⟩
      · exact Ke1 b3 σ' η' (Sum.inl.inj hr).symm H locs ls cells slots q hl G hc hz
      · cases hr
set_option maxHeartbeats 400000 in
theorem wX0_row_53 (C0 : Cx ad dc D RX0 cX0_row 5 p s m args meth c) (a1 : Int32) (a2 : Nat) (a3 : Int32) (σ : St) (η : Eta) (hnm : meth.name = yX0_row.name) (hfl : l.flags = flags0) (hT : c.exceptionTable.toList = tableOf [(53, 98, 101, 150)]) (o : Int32 × St × Eta) (h : fX0_row_53 a1 a2 a3 σ η = some o) (Kr : KrAI p l e (RA FrX0_row LoX0_row (N1 + 3) (Z1 + 80)) s m args below meth c cX0_row Q (GW o.2.2.1 (ksOf o.2.2) ad dc D A s o.2.1) (N1 + 3) (Z1 + 80) o.1) (hN : o.2.2.2.1 ≤ n0 + N1 ∧ o.2.2.2.2 ≤ z0 + Z1) (H : Heap) (locs : List Loc) (ls : Array Slot) (cells slots : Nat) (hl : lv_has ls 5 [(0, .ref (ad 0)), (1, .int a1), (2, .ref (ad a2)), (3, .int a3)]) (G : GW η.1 (ksOf η) ad dc D A s σ H locs) (E : EA ad dc A s n0 z0 η cells slots) : W p l e (RA FrX0_row LoX0_row (N1 + 3) (Z1 + 80)) s m args below meth c H locs cells slots Q (F0 m 53 ls []) := by
  have hx := C0.1
  have hb := C0.2.1
  unfold fX0_row_53 at h
  obtain ⟨ex, h1, h⟩ := bn1_e h
  have hNx := a_leq (moxX0_row_53 h) hN
  refine lX0_row_53 C0 a1 a2 hfl hnm hT FU a3 σ η ex h1 ?_ ?_ hNx H locs ls cells slots hl G E
  · intro b3 σ' η' hv H locs ls cells slots hl G E
    rw [hv] at h
    have h : fX0_row_98 b3 (σ') (η') = some o := h
    exact wX0_row_98 C0 b3 σ' η' hnm hfl hT _ h Kr hN _ _ _ _ _ hl G E
  · intro b3 σ' η' hv H locs ls cells slots q hl G hc hz
    rw [hv] at h
    have h : fX0_row_101 b3 (σ') (η') = some o := h
    exact wX0_row_101 C0 b3 σ' η' _ h Kr _ _ _ _ _ q hl G hc hz
theorem mofX0_row_39 {a1 : Int32} {t0 : Nat} {σ : St} {η : Eta} {o : Int32 × St × Eta} (h : fX0_row_39 a1 t0 σ η = some o) : EX η o.2.2 := by
  unfold fX0_row_39 at h
  obtain ⟨hX, h⟩ := ckX_e h
  obtain ⟨n_1, hs_2, h⟩ := ckI_e h
  obtain ⟨b_3, h⟩ := ckC_e h
  obtain ⟨ho_, h⟩ := ckP_e h
  obtain ⟨σ4, e_σ4⟩ : ∃ z : St, z = pC (σ) 11 t0 (0 : Int32).toNatClampNeg (0 : Int32).toNatClampNeg a1.toNatClampNeg := ⟨_, rfl⟩
  have h := letB_e h e_σ4
  exact EX.tr EX.rf (mofX0_row_53 h)
set_option maxHeartbeats 400000 in
theorem wX0_row_39 (C0 : Cx ad dc D RX0 cX0_row 5 p s m args meth c) (a1 : Int32) (t0 : Nat) (σ : St) (η : Eta) (hnm : meth.name = yX0_row.name) (hfl : l.flags = flags0) (hT : c.exceptionTable.toList = tableOf [(53, 98, 101, 150)]) (o : Int32 × St × Eta) (h : fX0_row_39 a1 t0 σ η = some o) (Kr : KrAI p l e (RA FrX0_row LoX0_row (N1 + 3) (Z1 + 80)) s m args below meth c cX0_row Q (GW o.2.2.1 (ksOf o.2.2) ad dc D A s o.2.1) (N1 + 3) (Z1 + 80) o.1) (hN : o.2.2.2.1 ≤ n0 + N1 ∧ o.2.2.2.2 ≤ z0 + Z1) (H : Heap) (locs : List Loc) (ls : Array Slot) (cells slots : Nat) (hl : lv_has ls 5 [(0, .ref (ad 0)), (1, .int a1)]) (G : GW η.1 (ksOf η) ad dc D A s σ H locs) (E : EA ad dc A s n0 z0 η cells slots) : W p l e (RA FrX0_row LoX0_row (N1 + 3) (Z1 + 80)) s m args below meth c H locs cells slots Q (F0 m 39 ls [.ref (ad t0)]) := by
  have hx := C0.1
  have hb := C0.2.1
  have hcz := a_le E (mofX0_row_39 h) hN
  unfold fX0_row_39 at h
  obtain ⟨hX, h⟩ := ckX_e h
  refine lv_astore_n (lv' := [(2, .ref (ad t0)), (0, .ref (ad 0)), (1, .int a1)]) hx hb dX0_row_39 rfl hl (by decide) rfl (fun ls hl => ?_)
  refine lv_aload_n hx hb dX0_row_40 rfl (lv_at hl 1 rfl) ?_
  refine g_getC C0 G in_X0 (ci := 0) rfl (hX.1 0 (by decide)) (fl := xFlX0) ((hX.2.1 0 (by decide)).trans rfl) 4 (by decide) rfl q442 dX0_row_41 ?_
  refine lv_iconst (v := 0) hx hb dX0_row_44 (by decide +kernel) ?_
  refine lv_aload_n hx hb dX0_row_45 rfl (lv_at hl 0 rfl) ?_
  refine lv_iconst (v := 0) hx hb dX0_row_46 (by decide +kernel) ?_
  refine lv_iload_n hx hb dX0_row_47 rfl (lv_at hl 2 rfl) ?_
  obtain ⟨n_1, hs_2, h⟩ := ckI_e h
  obtain ⟨b_3, h⟩ := ckC_e h
  obtain ⟨ho_, h⟩ := ckP_e h
  refine g_copyB (hfit := ho_) C0 G hl (n0 := 400) (n1 := n_1) (hX.1 11 (by decide)) ((hX.2.1 11 (by decide)).trans rfl) (ks_mem E.2.2.2.1 (by rw [hs_2]; exact (by decide : (1 : Nat) ≠ 9))) hs_2 b_3 q729 q517 q516 q121 (Nat.le_of_ble_eq_true rfl) (Nat.le_of_ble_eq_true rfl) dX0_row_48 (fun σ4 H locs e_σ4 G => ?_)
  have h := letB_e h e_σ4
  refine lv_iconst (v := 0) hx hb dX0_row_51 (by decide +kernel) ?_
  refine lv_istore_n (lv' := [(3, .int 0), (2, .ref (ad t0)), (0, .ref (ad 0)), (1, .int a1)]) hx hb dX0_row_52 rfl hl (by decide) rfl (fun ls hl => ?_)
  exact wX0_row_53 C0 a1 t0 0 (σ4) (η) hnm hfl hT _ h Kr hN _ _ _ _ _ (lv_sub hl [2, 3, 1, 0] rfl) G E
theorem mofX0_row_0 {σ : St} {η : Eta} {o : Int32 × St × Eta} (h : fX0_row_0 σ η = some o) : EX η o.2.2 := by
  unfold fX0_row_0 at h
  obtain ⟨hX, h⟩ := ckX_e h
  obtain ⟨x1, e_x1⟩ : ∃ z : Int32, z = gI σ 0 5 := ⟨_, rfl⟩
  have h := letB_e h e_x1
  obtain ⟨σ2, e_σ2⟩ : ∃ z : St, z = pI σ 0 5 0 := ⟨_, rfl⟩
  have h := letB_e h e_σ2
  rcases (Classical.em (x1 = 0)) with c3 | c3
  · have h := ite_t h c3
    obtain ⟨r4, σ5, h_r4, h⟩ := bn2_e h
    cases h
    exact EX.rf
  · have h := ite_f h c3
    rcases (Classical.em (((x1 + 3) / 4) ≤ (gI σ2 2 5))) with c6 | c6
    · have h := ite_t h c6
      obtain ⟨b_7, h⟩ := ckW_e h
      exact EX.tr (EX.tr EX.rf (EX.aE (by show (1 : Nat) ≠ 9; decide))) (mofX0_row_39 h)
    · have h := ite_f h c6
      obtain ⟨r8, σ9, h_r8, h⟩ := bn2_e h
      cases h
      exact EX.rf
set_option maxHeartbeats 400000 in
theorem wX0_row_0 (C0 : Cx ad dc D RX0 cX0_row 5 p s m args meth c)  (σ : St) (η : Eta) (hnm : meth.name = yX0_row.name) (hfl : l.flags = flags0) (hT : c.exceptionTable.toList = tableOf [(53, 98, 101, 150)]) (o : Int32 × St × Eta) (h : fX0_row_0 σ η = some o) (Kr : KrAI p l e (RA FrX0_row LoX0_row (N1 + 3) (Z1 + 80)) s m args below meth c cX0_row Q (GW o.2.2.1 (ksOf o.2.2) ad dc D A s o.2.1) (N1 + 3) (Z1 + 80) o.1) (hN : o.2.2.2.1 ≤ n0 + N1 ∧ o.2.2.2.2 ≤ z0 + Z1) (H : Heap) (locs : List Loc) (ls : Array Slot) (cells slots : Nat) (hl : lv_has ls 5 [(0, .ref (ad 0))]) (G : GW η.1 (ksOf η) ad dc D A s σ H locs) (E : EA ad dc A s n0 z0 η cells slots) : W p l e (RA FrX0_row LoX0_row (N1 + 3) (Z1 + 80)) s m args below meth c H locs cells slots Q (F0 m 0 ls []) := by
  have hx := C0.1
  have hb := C0.2.1
  have hcz := a_le E (mofX0_row_0 h) hN
  unfold fX0_row_0 at h
  obtain ⟨hX, h⟩ := ckX_e h
  refine lv_aload_n hx hb dX0_row_0 rfl (lv_at hl 0 rfl) ?_
  refine g_getI C0 G in_X0 (ci := 0) rfl (hX.1 0 (by decide)) (fl := xFlX0) ((hX.2.1 0 (by decide)).trans rfl) 5 (by decide) rfl q443 dX0_row_1 ?_
  refine lv_topi (fun x1 e_x1 => ?_)
  have h := letB_e h e_x1
  refine lv_istore_n (lv' := [(1, .int x1), (0, .ref (ad 0))]) hx hb dX0_row_4 rfl hl (by decide) rfl (fun ls hl => ?_)
  refine lv_aload_n hx hb dX0_row_5 rfl (lv_at hl 1 rfl) ?_
  refine lv_iconst (v := 0) hx hb dX0_row_6 (by decide +kernel) ?_
  refine g_putI C0 G in_X0 tyX0_ok nmX0 (ci := 0) rfl (hX.1 0 (by decide)) (fl := xFlX0) ((hX.2.1 0 (by decide)).trans rfl) 5 (by decide) rfl q443 rfl dX0_row_7 ⟨rfl, rfl⟩ (fun σ2 H locs e_σ2 G => ?_)
  have h := letB_e h e_σ2
  refine lv_iload_n hx hb dX0_row_10 rfl (lv_at hl 0 rfl) ?_
  refine lv_if_eq (tgt := 29) hx hb dX0_row_11 (by decide) (fun c3 => ?_) (fun c3 => ?_)
  · have h := ite_t h c3
    refine lv_aload_n hx hb dX0_row_29 rfl (lv_at hl 1 rfl) ?_
    refine lv_bipush (v := (-6)) hx hb dX0_row_30 (by decide +kernel) ?_
    obtain ⟨r4, σ5, h_r4, h⟩ := bn2_e h
    refine g_callVi (rest := []) C0 G hl (ci := 0) rfl (hX.1 0 (by decide)) (fl := xFlX0) ((hX.2.1 0 (by decide)).trans rfl) (kX0_refuse (l := l) C0.2.2.2.2.2.2.1 G.2.2.1 G.2.2.2 hX h_r4) (cwV 1 C0.2.2.2.2.1 (lw_V q507 q509 qs0 q105 q510) rfl rfl rfl hdX0_refuse ⟨Nat.le_of_ble_eq_true rfl, Nat.le_of_ble_eq_true rfl⟩) rfl (Nat.le_of_ble_eq_true rfl) dX0_row_32 (a_w3 hcz) (fun H locs G => ?_)
    cases h
    have hce := a_end E hN
    refine W.widen (k := N1 + 3) (n := Z1 + 80) (Nat.le_trans hce.1 (Nat.le_add_right _ _)) (Nat.le_trans hce.2 (Nat.le_add_right _ _)) ?_
    exact Kr _ _ _ _ dX0_row_35 G
  · have h := ite_f h c3
    refine lv_iload_n hx hb dX0_row_14 rfl (lv_at hl 0 rfl) ?_
    refine lv_iconst (v := 3) hx hb dX0_row_15 (by decide +kernel) ?_
    refine lv_iadd hx hb dX0_row_16 ?_
    refine lv_iconst (v := 4) hx hb dX0_row_17 (by decide +kernel) ?_
    refine lv_idiv hx hb dX0_row_18 (by decide) ?_
    refine lv_aload_n hx hb dX0_row_19 rfl (lv_at hl 1 rfl) ?_
    refine g_getC C0 G in_X0 (ci := 0) rfl (hX.1 0 (by decide)) (fl := xFlX0) ((hX.2.1 0 (by decide)).trans rfl) 2 (by decide) rfl q438 dX0_row_20 ?_
    refine g_getIN C0 G in_X1 (ci := 1) rfl (hX.1 2 (by decide)) (fl := xFlX1) ((hX.2.1 2 (by decide)).trans rfl) 5 (by decide) rfl (xn_of C0.2.2.2.2.2.2.2.1 q208 rfl) dX0_row_23 ?_
    refine lv_icmp_le (tgt := 36) hx hb dX0_row_26 (by decide) (fun c6 => ?_) (fun c6 => ?_)
    · have h := ite_t h c6
      refine lv_iload_n hx hb dX0_row_36 rfl (lv_at hl 0 rfl) ?_
      obtain ⟨b_7, h⟩ := ckW_e h
      refine a_newI C0 G E (atype := .byte) 1 rfl rfl hprim_b rfl (by decide) q324 b_7 (Nat.le_trans (a_le1 E (mofX0_row_39 h) hN) (Nat.le_add_right _ _)) (Nat.le_trans (a_le2 E (mofX0_row_39 h) hN) (Nat.le_add_right _ _)) dX0_row_37 (fun H G E => ?_)
      exact wX0_row_39 C0 x1 (η.2.1) (aS (σ2) η.2.1) (aE η (1, 1, x1.toNatClampNeg, []) x1.toNatClampNeg) hnm hfl hT _ h Kr hN _ _ _ _ _ (lv_sub hl [1, 0] rfl) G E
    · have h := ite_f h c6
      refine lv_aload_n hx hb dX0_row_29 rfl (lv_at hl 1 rfl) ?_
      refine lv_bipush (v := (-6)) hx hb dX0_row_30 (by decide +kernel) ?_
      obtain ⟨r8, σ9, h_r8, h⟩ := bn2_e h
      refine g_callVi (rest := []) C0 G hl (ci := 0) rfl (hX.1 0 (by decide)) (fl := xFlX0) ((hX.2.1 0 (by decide)).trans rfl) (kX0_refuse (l := l) C0.2.2.2.2.2.2.1 G.2.2.1 G.2.2.2 hX h_r8) (cwV 1 C0.2.2.2.2.1 (lw_V q507 q509 qs0 q105 q510) rfl rfl rfl hdX0_refuse ⟨Nat.le_of_ble_eq_true rfl, Nat.le_of_ble_eq_true rfl⟩) rfl (Nat.le_of_ble_eq_true rfl) dX0_row_32 (a_w3 hcz) (fun H locs G => ?_)
      cases h
      have hce := a_end E hN
      refine W.widen (k := N1 + 3) (n := Z1 + 80) (Nat.le_trans hce.1 (Nat.le_add_right _ _)) (Nat.le_trans hce.2 (Nat.le_add_right _ _)) ?_
      exact Kr _ _ _ _ dX0_row_35 G
theorem mofX0_row {σ : St} {η : Eta} {o : Int32 × St × Eta} (h : fX0_row σ η = some o) : EX η o.2.2 := mofX0_row_0 h
theorem kX0_row {l : Launch} (hfl : l.flags = flags0) {ad : Nat → Nat} {dc : Nat → ClassId} {D : va_G} {A : Nat → Prop} (hi : ∀ i j, ad i = ad j → i = j) {σ σ' : St} {η η' : Eta} (hA : ∀ k, k ∈ ksOf η → A (ad k)) {r : Int32} (h : fX0_row σ η = some (r, σ', η')) (hc : η'.2.1 ≤ η.2.1 + 1 ∧ η'.2.2 ≤ η.2.2 + 40) : Met l yX0_row (wsW_ yX0_row cX0_row 5 (some .int) [(53, 98, 101, 150)]) (RA FrX0_row LoX0_row 4 120) (aPc ad dc D A σ η [.ref (ad 0)]) (aQi ad dc D A r σ' η') 4 120 A :=
  a_metIW (by decide) rfl hi hA (Nat.le_of_ble_eq_true rfl) (fun p e s m below meth c Q C0 hnm hT Kr E ls hl G => wX0_row_0 (N1 := 1) (Z1 := 40) C0 σ η hnm hfl hT (r, σ', η') h Kr hc _ _ _ _ _ hl G E)
end
