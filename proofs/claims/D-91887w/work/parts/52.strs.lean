/-! String constants: length() -/
set_option maxRecDepth 100000
section STR
variable {p : Program} {l : Launch} {e : Env} {R : Room} {s : State} {m : MethodId} {args : Array Value} {below : List Frame} {meth : Method} {c : Code} {H : Heap} {locs : List Loc} {cells slots : Nat} {Q : State → Prop}
variable {cc : ByteArray} {nL : Nat} {ad : Nat → Nat} {dc : Nat → ClassId} {D : va_G} {A : Nat → Prop} {own : String} {σ σ' : St} {η η' : Eta} {f lo : Nat} {pc n0 z0 : Nat} {ls : Array Slot} {rest st0 : List Value}
variable {y : MethodName} {bytes : ByteArray} {maxL : Nat} {ret : Option FieldType} {idx : Nat} {As : List Value} {lv : List (Nat × Value)}
theorem a_metT {av : List Value} {r0 : Int32} {ty : FieldType} (hn : narrow ty (.int r0) = .int r0) (hy : plainName y.cls = true) (hyc : y.cls = own) (hi : ∀ i j, ad i = ad j → i = j) (hA : ∀ k, k ∈ ksOf η → A (ad k)) (hlen : (lg_sl av).length ≤ nL)
    (body : ∀ (p : Program) (e : Env) (s : State) (m : MethodId) (below : List Frame) (meth : Method) (c : Code) (Q : State → Prop), Cx ad dc D own cc nL p s m av.toArray meth c → meth.name = y.name → KrAI p l e (RA f lo (η'.2.1 - η.2.1) (η'.2.2 - η.2.2)) s m av.toArray below meth c cc Q (GW η'.1 (ksOf η') ad dc D A s σ') (η'.2.1 - η.2.1) (η'.2.2 - η.2.2) r0 → EA ad dc A s η.2.1 η.2.2 η 0 0 → ∀ ls, lv_has ls nL (lv_args 0 av) → GW η.1 (ksOf η) ad dc D A s σ s.heap [] → W p l e (RA f lo (η'.2.1 - η.2.1) (η'.2.2 - η.2.2)) s m av.toArray below meth c s.heap [] 0 0 Q (F0 m 0 ls [])) :
    aMet l ad dc D A y cc nL (some ty) f lo σ η η' av (aQi ad dc D A r0 σ' η') := by
  refine Met.ofW (cc := cc) (maxL := nL) (ret := (some ty)) hy rfl ?_
  intro p e s m args below meth c s₁ B hml hv
  obtain ⟨rfl, hP, hK, hN, hE⟩ := hv
  have hts := atoms_spec (ws := ws_ y cc nL (some ty)) B.pre
  rw [lg_entry_eq]
  exact body p e s m below meth c _ ⟨B.exec, B.bytes, hml, hyc ▸ findClass_of_methodNamed B.named, fun w h => hts w (List.mem_cons_of_mem _ h), hK, hi, hN, B.notSynchronized⟩ (name_of_methodNamed B.named B.method).1 (fun pc H locs ls hd G => W.zret B.exec B.bytes B.returns hn (fun t ht hW => ⟨⟨r0, (), rfl, rfl, by show va_P _ _ _ t.heap; rw [ht]; exact G.1⟩, G.2.1.F ht⟩) G.2.1.2.2 hd) hE _ (lv_entry av hlen) ⟨hP, va_S.rf, ks_nd _, hA⟩
/-- a call on a cell outside the numbered ones -/
theorem a_callPi (C0 : Cx ad dc D own cc nL p s m args meth c) (G : GW η.1 (ksOf η) ad dc D A s σ H locs) (E : EA ad dc A s n0 z0 η cells slots) (hl : lv_has ls nL lv) {C : String} {b : Nat} (hr : ∃ cell : Cell, H[b]? = some cell ∧ cell.vm.isStatics = false ∧ s.vm.findClass C = some cell.cls) {r0 : Int32}
    (hM : aMet l ad dc D A y bytes maxL ret f lo σ η η (.ref b :: As) (aQi ad dc D A r0 σ η)) (cw : CallW R s args own C idx y bytes maxL ret (ws_ y bytes maxL ret) (RA f lo (η.2.1 - η.2.1) (η.2.2 - η.2.2)) (η.2.1 - η.2.1) (η.2.2 - η.2.2) As.length) (hst : st0 = As.reverse ++ .ref b :: rest) (hroom : (rest.map fun v => v.category).sum ≤ 8) (hdg : decode cc pc = .ok (.invokevirtual idx, 3)) (hf : cells ≤ R.cells ∧ slots ≤ R.slots)
    (kk : ∀ H1 locs1, GW η.1 (ksOf η) ad dc D A s σ H1 locs1 → EA ad dc A s n0 z0 η cells slots → W p l e R s m args below meth c H1 locs1 cells slots Q (F0 m (pc + 3) ls (.int r0 :: rest))) : W p l e R s m args below meth c H locs cells slots Q (F0 m pc ls st0) := by
  refine W_size fun hsz => ?_
  refine va_calli (va_runV ⟨C0.1, C0.2.1, C0.2.2.1, C0.2.2.2.1, C0.2.2.2.2.1⟩ hM cw ⟨(a_pc C0 G E hsz).1, hr, (a_pc C0 G E hsz).2⟩ rfl rfl hl.1 hst (lv_room hroom) hdg (by omega)) G.2.1 (fun _ _ h => h) (fun _ h => h) (fun r u t H1 locs1 ht hvm hr hB hz hk1 hS => ?_)
  subst hr
  obtain ⟨G1, E1⟩ := a_back (σ' := σ) G E EX.rf (ht ▸ hB) hS
  rw [Nat.sub_self, Nat.sub_self] at E1 ⊢
  exact kk H1 locs1 G1 E1
end STR
section STRM
variable {l : Launch} {ad : Nat → Nat} {dc : Nat → ClassId} {D : va_G} {A : Nat → Prop} {σ : St} {η : Eta} {i : Nat}
theorem kS_coder (hi : ∀ i j, ad i = ad j → i = j) (hA : ∀ k, k ∈ ksOf η → A (ad k)) (h27 : i < 27) : aMet l ad dc D A yJ8_coder cJ8_coder 1 (some .byte) 1 20 σ η η [.ref (dc (20 + i))] (aQi ad dc D A 0 σ η) := by
  refine a_metT (by decide) (by decide) rfl hi hA (Nat.le_of_ble_eq_true rfl) (fun p e s m below meth c Q C0 hnm Kr E ls hl G => ?_)
  have hx := C0.1
  have hb := C0.2.1
  have Z := E.2.2.2.2.2.2
  refine va_gets C0.1 C0.2.1 Z.2.2.2.1 G.2.1 C0.2.2.2.1 (C0.2.2.2.2.1 _ q835) (fun _ h => h) dJ8_coder_0 ?_
  refine lv_if_eq (tgt := 13) hx hb dJ8_coder_3 (by decide) (fun q => absurd q (by decide)) (fun _ => ?_)
  refine lv_aload_n hx hb dJ8_coder_6 rfl (lv_at hl 0 rfl) ?_
  refine vk_getf hx hb (Z.2.1.1 i h27).2.1 G.2.1 C0.2.2.2.1 (C0.2.2.2.2.1 _ q2165) (fun _ h => h) dJ8_coder_7 ?_
  refine lv_goto (tgt := 14) hx hb dJ8_coder_10 (by decide) ?_
  refine W.widen (k := η.2.1 - η.2.1) (n := η.2.2 - η.2.2) (Nat.zero_le _) (Nat.zero_le _) ?_
  exact Kr _ _ _ _ dJ8_coder_14 G
theorem kS_latin (hi : ∀ i j, ad i = ad j → i = j) (hA : ∀ k, k ∈ ksOf η → A (ad k)) (h27 : i < 27) : aMet l ad dc D A yJ8_isLatin1 cJ8_isLatin1 1 (some .boolean) 1 20 σ η η [.ref (dc (20 + i))] (aQi ad dc D A 1 σ η) := by
  refine a_metT (by decide) (by decide) rfl hi hA (Nat.le_of_ble_eq_true rfl) (fun p e s m below meth c Q C0 hnm Kr E ls hl G => ?_)
  have hx := C0.1
  have hb := C0.2.1
  have Z := E.2.2.2.2.2.2
  refine va_gets C0.1 C0.2.1 Z.2.2.2.1 G.2.1 C0.2.2.2.1 (C0.2.2.2.2.1 _ q835) (fun _ h => h) dJ8_isLatin1_0 ?_
  refine lv_if_eq (tgt := 17) hx hb dJ8_isLatin1_3 (by decide) (fun q => absurd q (by decide)) (fun _ => ?_)
  refine lv_aload_n hx hb dJ8_isLatin1_6 rfl (lv_at hl 0 rfl) ?_
  refine vk_getf hx hb (Z.2.1.1 i h27).2.1 G.2.1 C0.2.2.2.1 (C0.2.2.2.2.1 _ q2165) (fun _ h => h) dJ8_isLatin1_7 ?_
  refine lv_if_ne (tgt := 17) hx hb dJ8_isLatin1_10 (by decide) (fun q => absurd rfl q) (fun _ => ?_)
  refine lv_iconst (v := 1) hx hb dJ8_isLatin1_13 (by decide) ?_
  refine lv_goto (tgt := 18) hx hb dJ8_isLatin1_14 (by decide) ?_
  refine W.widen (k := η.2.1 - η.2.1) (n := η.2.2 - η.2.2) (Nat.zero_le _) (Nat.zero_le _) ?_
  exact Kr _ _ _ _ dJ8_isLatin1_18 G
theorem kS_length (hi : ∀ i j, ad i = ad j → i = j) (hA : ∀ k, k ∈ ksOf η → A (ad k)) (h27 : i < 27) : aMet l ad dc D A yJ8_length cJ8_length 1 (some .int) 2 60 σ η η [.ref (dc (20 + i))] (aQi ad dc D A (Int32.ofNat (sLen.getD i 0) >>> ((0 : Int32) &&& 31)) σ η) := by
  refine a_metI (by decide) rfl hi hA (Nat.le_of_ble_eq_true rfl) (fun p e s m below meth c Q C0 hnm Kr E ls hl G => ?_)
  have hx := C0.1
  have hb := C0.2.1
  have Z := E.2.2.2.2.2.2
  refine lv_aload_n hx hb dJ8_length_0 rfl (lv_at hl 0 rfl) ?_
  refine vk_getf hx hb (Z.2.1.1 i h27).2.2.1 G.2.1 C0.2.2.2.1 (C0.2.2.2.2.1 _ q2164) (fun _ h => h) dJ8_length_1 ?_
  refine va_tlen hx hb (Z.2.1.1 i h27).2.2.2 G.2.1 rfl dJ8_length_4 ?_
  refine lv_aload_n hx hb dJ8_length_5 rfl (lv_at hl 0 rfl) ?_
  refine a_callPi (rest := [.int (Int32.ofNat (sLen.getD i 0))]) C0 G E hl (vk_recv Z.2.1 h27 G.2.1) (kS_coder hi (fun k hk => G.2.2.2 k hk) h27) (cwV 0 C0.2.2.2.2.1 (lw_V q831 q832 q833 q120 q834) rfl rfl rfl (by decide +kernel) ⟨Nat.le_of_ble_eq_true rfl, Nat.le_of_ble_eq_true rfl⟩) rfl (Nat.le_of_ble_eq_true rfl) dJ8_length_6 ⟨Nat.zero_le _, Nat.zero_le _⟩ (fun H locs G E => ?_)
  refine lv_ishr hx hb dJ8_length_9 ?_
  refine W.widen (k := η.2.1 - η.2.1) (n := η.2.2 - η.2.2) (Nat.zero_le _) (Nat.zero_le _) ?_
  exact Kr _ _ _ _ dJ8_length_10 G
end STRM
