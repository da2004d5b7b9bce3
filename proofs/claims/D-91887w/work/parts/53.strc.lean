/-! String constants: charAt() -/
set_option maxRecDepth 100000
/-- the char at k of the constant i -/
def sCh (i : Nat) (k : Int32) : Int32 := (((((sByt.getD i []).getD k.toNatClampNeg 0) &&& 255).toUInt32) % 65536).toInt32
section STC
variable {p : Program} {l : Launch} {e : Env} {R : Room} {s : State} {m : MethodId} {args : Array Value} {below : List Frame} {meth : Method} {c : Code} {H : Heap} {locs : List Loc} {cells slots : Nat} {Q : State → Prop}
variable {cc : ByteArray} {nL : Nat} {ad : Nat → Nat} {dc : Nat → ClassId} {D : va_G} {A : Nat → Prop} {own : String} {σ σ' : St} {η η' : Eta} {f lo : Nat} {pc n0 z0 : Nat} {ls : Array Slot} {rest st0 : List Value}
variable {y : MethodName} {bytes : ByteArray} {maxL : Nat} {ret : Option FieldType} {idx : Nat} {As : List Value} {lv : List (Nat × Value)}
theorem a_callTi (C0 : Cx ad dc D own cc nL p s m args meth c) (G : GW η.1 (ksOf η) ad dc D A s σ H locs) (E : EA ad dc A s n0 z0 η cells slots) (hl : lv_has ls nL lv) {r0 : Int32}
    (hM : aMet l ad dc D A y bytes maxL ret f lo σ η η As (aQi ad dc D A r0 σ η)) (cw : CallB R s args own idx y bytes maxL ret (ws_ y bytes maxL ret) (RA f lo (η.2.1 - η.2.1) (η.2.2 - η.2.2)) (η.2.1 - η.2.1) (η.2.2 - η.2.2) As.length ∧ (Cond.static y).before args s = true) (hst : st0 = As.reverse ++ rest) (hroom : (rest.map fun v => v.category).sum ≤ 8) (hdg : decode cc pc = .ok (.invokestatic idx, 3)) (hf : cells ≤ R.cells ∧ slots ≤ R.slots)
    (kk : ∀ H1 locs1, GW η.1 (ksOf η) ad dc D A s σ H1 locs1 → EA ad dc A s n0 z0 η cells slots → W p l e R s m args below meth c H1 locs1 cells slots Q (F0 m (pc + 3) ls (.int r0 :: rest))) : W p l e R s m args below meth c H locs cells slots Q (F0 m pc ls st0) := by
  refine W_size fun hsz => ?_
  refine va_calli (va_runS ⟨C0.1, C0.2.1, C0.2.2.1, C0.2.2.2.1, C0.2.2.2.2.1⟩ hM cw (a_pc C0 G E hsz) rfl rfl hl.1 hst (lv_room hroom) hdg (by omega)) G.2.1 (fun _ _ h => h) (fun _ h => h) (fun r u t H1 locs1 ht hvm hr hB hz hk1 hS => ?_)
  subst hr
  obtain ⟨G1, E1⟩ := a_back (σ' := σ) G E EX.rf (ht ▸ hB) hS
  rw [Nat.sub_self, Nat.sub_self] at E1 ⊢
  exact kk H1 locs1 G1 E1
theorem a_callTv (C0 : Cx ad dc D own cc nL p s m args meth c) (G : GW η.1 (ksOf η) ad dc D A s σ H locs) (E : EA ad dc A s n0 z0 η cells slots) (hl : lv_has ls nL lv)
    (hM : aMet l ad dc D A y bytes maxL ret f lo σ η η As (aQv ad dc D A σ η)) (cw : CallB R s args own idx y bytes maxL ret (ws_ y bytes maxL ret) (RA f lo (η.2.1 - η.2.1) (η.2.2 - η.2.2)) (η.2.1 - η.2.1) (η.2.2 - η.2.2) As.length ∧ (Cond.static y).before args s = true) (hst : st0 = As.reverse ++ rest) (hroom : (rest.map fun v => v.category).sum ≤ 8) (hdg : decode cc pc = .ok (.invokestatic idx, 3)) (hf : cells ≤ R.cells ∧ slots ≤ R.slots)
    (kk : ∀ H1 locs1, GW η.1 (ksOf η) ad dc D A s σ H1 locs1 → EA ad dc A s n0 z0 η cells slots → W p l e R s m args below meth c H1 locs1 cells slots Q (F0 m (pc + 3) ls rest)) : W p l e R s m args below meth c H locs cells slots Q (F0 m pc ls st0) := by
  refine W_size fun hsz => ?_
  refine va_callv (va_runS ⟨C0.1, C0.2.1, C0.2.2.1, C0.2.2.2.1, C0.2.2.2.2.1⟩ hM cw (a_pc C0 G E hsz) rfl rfl hl.1 hst (lv_room hroom) hdg (by omega)) G.2.1 (fun _ _ h => h) (fun _ h => h) (fun u t H1 locs1 ht hvm hr hB hz hk1 hS => ?_)
  obtain ⟨G1, E1⟩ := a_back (σ' := σ) G E EX.rf (ht ▸ hB) hS
  rw [Nat.sub_self, Nat.sub_self] at E1 ⊢
  exact kk H1 locs1 G1 E1
theorem a_ldcS (C0 : Cx ad dc D RX7 cc nL p s m args meth c) (E : EA ad dc A s n0 z0 η cells slots) {i : Nat} {tx : String} (hi : sTab[i]? = some (idx, tx)) (hdg : decode cc pc = .ok (.ldc idx, 2))
    (kk : W p l e R s m args below meth c H locs cells slots Q (F0 m (pc + 2) ls (.ref (dc (20 + i)) :: rest))) : W p l e R s m args below meth c H locs cells slots Q (F0 m pc ls rest) :=
  va_ldcS (own := "HotIron$Reader") C0.1 C0.2.1 C0.2.2.2.1 (E.2.2.2.2.2.2.2.2.1 i _ hi) hdg kk
end STC
section STCM
variable {l : Launch} {ad : Nat → Nat} {dc : Nat → ClassId} {D : va_G} {A : Nat → Prop} {σ : St} {η : Eta} {i : Nat} {k n : Int32} {v : Value}
theorem kS_pre (hi : ∀ i j, ad i = ad j → i = j) (hA : ∀ k, k ∈ ksOf η → A (ad k)) (hv : v.category = 1) (h0 : ¬ k < 0) (h1 : k < n) : aMet l ad dc D A yJ10_checkIndex cJ10_checkIndex 3 (some .int) 1 20 σ η η [.int k, .int n, v] (aQi ad dc D A k σ η) := by
  refine a_metI (by decide) rfl hi hA (by cases v <;> first | (cases hv; done) | exact Nat.le_of_ble_eq_true rfl) (fun p e s m below meth c Q C0 hnm Kr E ls hl G => ?_)
  have hx := C0.1
  have hb := C0.2.1
  have hl : lv_has ls 3 [(0, .int k), (1, .int n)] := lv_sub hl [0, 1] rfl
  refine lv_iload_n hx hb dJ10_checkIndex_0 rfl (lv_at hl 0 rfl) ?_
  refine lv_if_lt (tgt := 9) hx hb dJ10_checkIndex_1 (by decide) (fun q => absurd q h0) (fun _ => ?_)
  refine lv_iload_n hx hb dJ10_checkIndex_4 rfl (lv_at hl 0 rfl) ?_
  refine lv_iload_n hx hb dJ10_checkIndex_5 rfl (lv_at hl 1 rfl) ?_
  refine lv_icmp_lt (tgt := 16) hx hb dJ10_checkIndex_6 (by decide) (fun _ => ?_) (fun q => absurd h1 q)
  refine lv_iload_n hx hb dJ10_checkIndex_16 rfl (lv_at hl 0 rfl) ?_
  refine W.widen (k := η.2.1 - η.2.1) (n := η.2.2 - η.2.2) (Nat.zero_le _) (Nat.zero_le _) ?_
  exact Kr _ _ _ _ dJ10_checkIndex_17 G
theorem kS_check (hi : ∀ i j, ad i = ad j → i = j) (hA : ∀ k, k ∈ ksOf η → A (ad k)) (h0 : ¬ k < 0) (h1 : k < n) : aMet l ad dc D A yJ8_checkIndex cJ8_checkIndex 2 none 2 60 σ η η [.int k, .int n] (aQv ad dc D A σ η) := by
  refine a_metV (by decide) rfl hi hA (Nat.le_of_ble_eq_true rfl) (fun p e s m below meth c Q C0 hnm Kr E ls hl G => ?_)
  have hx := C0.1
  have hb := C0.2.1
  have Z := E.2.2.2.2.2.2
  obtain ⟨x, hz⟩ : ∃ x : Option Nat, va_Z "jdk/internal/util/Preconditions" "SIOOBE_FORMATTER" "Ljava/util/function/BiFunction;" (va_rf x) A s s.heap := by
    rcases Z.2.2.2.2 with h | ⟨t, h⟩
    · exact ⟨none, h⟩
    · exact ⟨some t, h⟩
  have hc : (va_rf x).category = 1 := by cases x <;> rfl
  refine lv_iload_n hx hb dJ8_checkIndex_0 rfl (lv_at hl 0 rfl) ?_
  refine lv_iload_n hx hb dJ8_checkIndex_1 rfl (lv_at hl 1 rfl) ?_
  refine va_gets C0.1 C0.2.1 hz G.2.1 C0.2.2.2.1 (C0.2.2.2.2.1 _ q851) (fun _ h => h) dJ8_checkIndex_2 ?_
  refine a_callTi (rest := []) C0 G E hl (kS_pre hi (fun k hk => G.2.2.2 k hk) hc h0 h1) (va_cwS 3 C0.2.2.2.2.1 (lw_S q853 q854 q125 q855) rfl rfl rfl (by decide +kernel) ⟨Nat.le_of_ble_eq_true rfl, Nat.le_of_ble_eq_true rfl⟩) rfl (Nat.le_of_ble_eq_true rfl) dJ8_checkIndex_5 ⟨Nat.zero_le _, Nat.zero_le _⟩ (fun H locs G E => ?_)
  refine lv_pop hx hb dJ8_checkIndex_8 rfl ?_
  refine W.widen (k := η.2.1 - η.2.1) (n := η.2.2 - η.2.2) (Nat.zero_le _) (Nat.zero_le _) ?_
  exact Kr _ _ _ _ dJ8_checkIndex_9 G
theorem kS_latAt (hi : ∀ i j, ad i = ad j → i = j) (hA : ∀ k, k ∈ ksOf η → A (ad k)) (h27 : i < 27) (hk : vp_in k (sLen.getD i 0)) (h1 : k < Int32.ofNat (sLen.getD i 0)) : aMet l ad dc D A yJ9_charAt cJ9_charAt 2 (some .char) 3 100 σ η η [.ref (dc (60 + i)), .int k] (aQi ad dc D A (sCh i k) σ η) := by
  refine a_metT (pk_nc _) (by decide) rfl hi hA (Nat.le_of_ble_eq_true rfl) (fun p e s m below meth c Q C0 hnm Kr E ls hl G => ?_)
  have hx := C0.1
  have hb := C0.2.1
  have Z := E.2.2.2.2.2.2
  refine lv_iload_n hx hb dJ9_charAt_0 rfl (lv_at hl 1 rfl) ?_
  refine lv_aload_n hx hb dJ9_charAt_1 rfl (lv_at hl 0 rfl) ?_
  refine va_tlen hx hb (Z.2.1.1 i h27).2.2.2 G.2.1 rfl dJ9_charAt_2 ?_
  refine a_callTv (rest := []) C0 G E hl (kS_check hi (fun k hk => G.2.2.2 k hk) (fun q => hk (Or.inl q)) h1) (va_cwS 2 C0.2.2.2.2.1 (lw_S q848 q849 q120 q850) rfl rfl rfl (by decide +kernel) ⟨Nat.le_of_ble_eq_true rfl, Nat.le_of_ble_eq_true rfl⟩) rfl (Nat.le_of_ble_eq_true rfl) dJ9_charAt_3 ⟨Nat.zero_le _, Nat.zero_le _⟩ (fun H locs G E => ?_)
  have Z := E.2.2.2.2.2.2
  refine lv_aload_n hx hb dJ9_charAt_6 rfl (lv_at hl 0 rfl) ?_
  refine lv_iload_n hx hb dJ9_charAt_7 rfl (lv_at hl 1 rfl) ?_
  refine va_tb hx hb (Z.2.1.1 i h27).2.2.2 G.2.1 hk rfl dJ9_charAt_8 ?_
  refine lv_sipush (v := 255) hx hb dJ9_charAt_9 (by decide +kernel) ?_
  refine lv_iand hx hb dJ9_charAt_12 ?_
  refine lv_i2c hx hb dJ9_charAt_13 rfl ?_
  refine W.widen (k := η.2.1 - η.2.1) (n := η.2.2 - η.2.2) (Nat.zero_le _) (Nat.zero_le _) ?_
  exact Kr _ _ _ _ dJ9_charAt_14 G
theorem kS_charAt (hi : ∀ i j, ad i = ad j → i = j) (hA : ∀ k, k ∈ ksOf η → A (ad k)) (h27 : i < 27) (hk : vp_in k (sLen.getD i 0)) (h1 : k < Int32.ofNat (sLen.getD i 0)) : aMet l ad dc D A yJ8_charAt cJ8_charAt 2 (some .char) 4 140 σ η η [.ref (dc (20 + i)), .int k] (aQi ad dc D A (sCh i k) σ η) := by
  refine a_metT (pk_nc _) (by decide) rfl hi hA (Nat.le_of_ble_eq_true rfl) (fun p e s m below meth c Q C0 hnm Kr E ls hl G => ?_)
  have hx := C0.1
  have hb := C0.2.1
  have Z := E.2.2.2.2.2.2
  refine lv_aload_n hx hb dJ8_charAt_0 rfl (lv_at hl 0 rfl) ?_
  refine a_callPi (rest := []) C0 G E hl (vk_recv Z.2.1 h27 G.2.1) (kS_latin hi (fun k hk => G.2.2.2 k hk) h27) (cwV 0 C0.2.2.2.2.1 (lw_V q841 q842 q843 q120 q844) rfl rfl rfl (by decide +kernel) ⟨Nat.le_of_ble_eq_true rfl, Nat.le_of_ble_eq_true rfl⟩) rfl (Nat.le_of_ble_eq_true rfl) dJ8_charAt_1 ⟨Nat.zero_le _, Nat.zero_le _⟩ (fun H locs G E => ?_)
  have Z := E.2.2.2.2.2.2
  refine lv_if_eq (tgt := 16) hx hb dJ8_charAt_4 (by decide) (fun q => absurd q (by decide)) (fun _ => ?_)
  refine lv_aload_n hx hb dJ8_charAt_7 rfl (lv_at hl 0 rfl) ?_
  refine vk_getf hx hb (Z.2.1.1 i h27).2.2.1 G.2.1 C0.2.2.2.1 (C0.2.2.2.2.1 _ q2164) (fun _ h => h) dJ8_charAt_8 ?_
  refine lv_iload_n hx hb dJ8_charAt_11 rfl (lv_at hl 1 rfl) ?_
  refine a_callTi (rest := []) C0 G E hl (kS_latAt hi (fun k hk => G.2.2.2 k hk) h27 hk h1) (va_cwS 2 C0.2.2.2.2.1 (lw_S q845 q846 q124 q847) rfl rfl rfl (by decide +kernel) ⟨Nat.le_of_ble_eq_true rfl, Nat.le_of_ble_eq_true rfl⟩) rfl (Nat.le_of_ble_eq_true rfl) dJ8_charAt_12 ⟨Nat.zero_le _, Nat.zero_le _⟩ (fun H locs G E => ?_)
  refine W.widen (k := η.2.1 - η.2.1) (n := η.2.2 - η.2.2) (Nat.zero_le _) (Nat.zero_le _) ?_
  exact Kr _ _ _ _ dJ8_charAt_15 G
end STCM
