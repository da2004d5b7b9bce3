/-! the law: its own state, and the calls of either side -/
set_option maxRecDepth 100000
def Am (adm : Nat → Nat) : Nat → Prop := fun q => ∃ k, k < 31 ∧ q = adm k
def Ax (s : State) (adm : Nat → Nat) : Nat → Prop := fun q => s.heap.size ≤ q ∧ ∀ k, k < 31 → q ≠ adm k
def LA (s : State) : Nat → Prop := fun q => s.heap.size ≤ q
/-- what stays all through the law's run -/
def LC (dc : Nat → ClassId) (D : va_G) (p : Program) (s : State) (m : MethodId) (args : Array Value) (meth : Method) (c : Code) (b L : Nat) (xs : Nat → Int32) : Prop :=
  p.tables.exec = Jvm.exec ∧ c.code = code ∧ c.maxLocals = 4 ∧ s.vm.findClass "HotIronLaw" = some m.cls ∧ (∀ w ∈ lw_all, w.before args s = true) ∧ va_K D vwCl (tysOf dc) s ∧ XN dc s ∧ va_X b L xs s s.heap ∧ b < s.heap.size ∧ meth.locks = false
/-- both worlds in the heap; new cells' numbers are addresses -/
def LW (s : State) (base : Nat) (adm ad : Nat → Nat) (dc : Nat → ClassId) (D : va_G) (σ : St) (η : Eta) (σm : St) (H : Heap) (locs : List Loc) : Prop :=
  va_P D vwCl (wsOf (ksOf η) η.1 ad dc σ) H ∧ va_P D vwCl (wsOf mKs mSh adm dc σm) H ∧
  ((∀ i j, ad i = ad j → i = j) ∧ (∀ i j, adm i = adm j → i = j) ∧ (∀ k, k < 31 → s.heap.size ≤ adm k) ∧ ∀ k, k ∈ ksOf η → Ax s adm (ad k)) ∧
  H.size = base + η.2.1 ∧ (∀ k, η.2.1 ≤ k → ad k = base + k) ∧ wfE η ∧ ZZ dc (Ax s adm) s s.heap ∧ va_S (LA s) s.heap H locs
theorem ks_bump {η : Eta} (hw : wfE η) {n z : Nat} (hn : η.2.1 ≤ n) : ksOf (η.1, n, z) = ksOf η := by
  obtain ⟨d, rfl⟩ := Nat.exists_eq_add_of_le hn
  clear hn
  induction d with
  | zero => rfl
  | succ d ih =>
    rw [← ih]
    unfold ksOf
    show (List.range (η.2.1 + d + 1)).filter _ = (List.range (η.2.1 + d)).filter _
    rw [List.range_succ, List.filter_append, List.filter_cons_of_neg, List.filter_nil, List.append_nil]
    rw [decide_eq_true_eq, Classical.not_not]
    exact hw _ (Nat.le_add_right _ _)
section LB
variable {p : Program} {l : Launch} {e : Env} {R : Room} {s : State} {m : MethodId} {args : Array Value} {below : List Frame} {meth : Method} {c : Code} {H : Heap} {locs : List Loc} {cells slots : Nat} {Q : State → Prop}
variable {ad adm : Nat → Nat} {dc : Nat → ClassId} {D : va_G} {σ σ' σm σm' : St} {η η' : Eta} {pc base b L : Nat} {xs : Nat → Int32} {ls : Array Slot} {rest st0 : List Value}
variable {y : MethodName} {bytes : ByteArray} {maxL : Nat} {ret : Option FieldType} {rm : Room} {idx mc ms : Nat} {As : List Value} {lv : List (Nat × Value)} {hh : List (Nat × Nat × Nat × Nat)} {fl : List (Nat × Nat)}
theorem LW.ltm (Lw : LW s base adm ad dc D σ η σm H locs) {k : Nat} (hk : k < 31) : adm k < H.size := by
  have h : k ∈ mKs := List.mem_range.mpr hk
  obtain ⟨i, hi⟩ := List.getElem?_of_mem h
  exact (Lw.2.1 i _ (wsOf_at hi)).lt
theorem LW.axn (Lw : LW s base adm ad dc D σ η σm H locs) {k : Nat} (hk : η.2.1 ≤ k) : Ax s adm (ad k) := by
  have h1 := Lw.2.2.2.2.1 k hk
  have h2 := Lw.2.2.2.1
  have h3 := Lw.2.2.2.2.2.2.2.1
  refine ⟨by omega, fun j hj q => ?_⟩
  have := Lw.ltm hj
  omega
/-- behind a call of either side -/
theorem LW.next {H1 : Heap} {locs1 : List Loc} (Lw : LW s base adm ad dc D σ η σm H locs) (hx : EX η η') (hz : H.size ≤ H1.size) (h1 : va_P D vwCl (wsOf (ksOf η') η'.1 ad dc σ') H1) (h2 : va_P D vwCl (wsOf mKs mSh adm dc σm') H1) (hS : va_S (LA s) s.heap H1 locs1) : ∃ n, η'.2.1 ≤ n ∧ LW s base adm ad dc D σ' (η'.1, n, η'.2.2) σm' H1 locs1 := by
  have hax := fun k hk => Lw.axn (k := k) hk
  obtain ⟨hP, hM, ⟨hi, him, hA, hAx⟩, hsz, had, hw, hZ, hS0⟩ := Lw
  obtain ⟨x1, x2, x3, x4, x5⟩ := hx
  have hw' := x5 hw
  have hle : base + η'.2.1 ≤ H1.size := by
    rcases x4 with q | q
    · omega
    · rcases Nat.lt_or_ge (η'.2.1 - 1) η.2.1 with z | z
      · omega
      · have hk : η'.2.1 - 1 ∈ ksOf η' := ks_mem hw' q
        obtain ⟨i, hi2⟩ := List.getElem?_of_mem hk
        have h9 : ad (η'.2.1 - 1) < H1.size := (h1 i _ (wsOf_at hi2)).lt
        rw [had _ z] at h9
        omega
  have hn : η'.2.1 ≤ H1.size - base := by omega
  have hk : ksOf (η'.1, H1.size - base, η'.2.2) = ksOf η' := ks_bump hw' hn
  refine ⟨H1.size - base, hn, ?_, h2, ⟨hi, him, hA, fun k hk2 => ?_⟩, ?_, fun k hk2 => ?_, fun k hk2 => ?_, hZ, hS⟩
  · rw [hk]
    exact h1
  · rw [hk] at hk2
    rcases Nat.lt_or_ge k η.2.1 with q | q
    · refine hAx k (ks_mem hw ?_)
      have := (ks_lt hk2).2
      rwa [x3 k q] at this
    · exact hax k q
  · show H1.size = base + (H1.size - base)
    omega
  · have hk2 : H1.size - base ≤ k := hk2
    exact had k (by omega)
  · have hk2 : H1.size - base ≤ k := hk2
    exact hw' k (by omega)
theorem l_preA (C0 : LC dc D p s m args meth c b L xs) (Lw : LW s base adm ad dc D σ η σm H locs) (hk : 0 ∈ ksOf η) (hs : η.1 0 = (0, 0, 0, fl)) : PreV s H RX0 (ad 0) (aPc ad dc D (Ax s adm) σ η (.ref (ad 0) :: As)) As := by
  have hax := fun k hk => Lw.axn (k := k) hk
  obtain ⟨hP, hM, ⟨hi, him, hA, hAx⟩, hsz, had, hw, hZ, hS0⟩ := Lw
  obtain ⟨i, hi0⟩ := List.getElem?_of_mem hk
  refine ⟨aPc_blind _ _ _ _ _ _ _, va_recv C0.2.2.2.2.2.1 hP (ci := 0) (q0 := i) rfl ((wsOf_at hi0).trans (by rw [ce_o hs])), fun U hU hW => ⟨rfl, by rw [hU]; exact hP, va_K.moved hW.alike C0.2.2.2.2.2.1, C0.2.2.2.2.2.2.1.warm hW, ⟨rfl, rfl, Or.inl rfl, hw, ⟨base, by rw [hU]; exact hsz, had⟩, fun k hk => hax k hk, hZ.to hW.alike (fun a h1 h2 => ?_) (fun _ _ _ _ h => vk_R.warm hW h)⟩⟩⟩
  rw [hU]
  exact hS0.2.1 a h1 (Nat.not_le.mpr h1)
theorem l_preG (C0 : LC dc D p s m args meth c b L xs) (Lw : LW s base adm ad dc D σ η σm H locs) (hk : 0 ∈ ksOf η) (hs : η.1 0 = (0, 0, 0, fl)) : PreV s H RX0 (ad 0) (gPc η.1 (ksOf η) ad dc D σ (.ref (ad 0) :: As)) As := by
  obtain ⟨hP, hM, -⟩ := Lw
  obtain ⟨i, hi0⟩ := List.getElem?_of_mem hk
  exact ⟨gPc_blind _ _ _ _ _ _ _, va_recv C0.2.2.2.2.2.1 hP (ci := 0) (q0 := i) rfl ((wsOf_at hi0).trans (by rw [ce_o hs])), fun U hU hW => ⟨rfl, by rw [hU]; exact hP, va_K.moved hW.alike C0.2.2.2.2.2.1, C0.2.2.2.2.2.2.1.warm hW⟩⟩
theorem l_preM (C0 : LC dc D p s m args meth c b L xs) (Lw : LW s base adm ad dc D σ η σm H locs) : PreV s H RX6 (adm 0) (gPc mSh mKs adm dc D σm (.ref (adm 0) :: As)) As := by
  obtain ⟨hP, hM, -⟩ := Lw
  have hk : 0 ∈ mKs := by decide
  obtain ⟨i, hi0⟩ := List.getElem?_of_mem hk
  exact ⟨gPc_blind _ _ _ _ _ _ _, va_recv C0.2.2.2.2.2.1 hM (ci := 6) (q0 := i) rfl ((wsOf_at hi0).trans (by rw [ce_o (q := mSh 0) rfl])), fun U hU hW => ⟨rfl, by rw [hU]; exact hM, va_K.moved hW.alike C0.2.2.2.2.2.1, C0.2.2.2.2.2.2.1.warm hW⟩⟩
/-- the model's world behind a call of x -/
theorem LW.mkeep {H1 : Heap} (Lw : LW s base adm ad dc D σ η σm H locs) (hk1 : ∀ q : Nat, q < H.size → ¬ Ax s adm q → H1[q]? = H[q]?) : va_P D vwCl (wsOf mKs mSh adm dc σm) H1 := by
  refine Lw.2.1.kept (fun k q hq => ?_)
  have hlt := (Lw.2.1 k q hq).lt
  obtain ⟨a, ha, rfl⟩ := wsOf_out hq
  exact hk1 _ hlt (fun z => z.2 a (List.mem_range.mp (List.mem_of_getElem? ha)) rfl)
theorem LW.xkeep {H1 : Heap} (Lw : LW s base adm ad dc D σ η σm H locs) (hk1 : ∀ q : Nat, q < H.size → ¬ Am adm q → H1[q]? = H[q]?) : va_P D vwCl (wsOf (ksOf η) η.1 ad dc σ) H1 := by
  refine Lw.1.kept (fun k q hq => ?_)
  have hlt := (Lw.1 k q hq).lt
  obtain ⟨a, ha, rfl⟩ := wsOf_out hq
  exact hk1 _ hlt (fun ⟨j, hj, e⟩ => (Lw.2.2.1.2.2.2 a (List.mem_of_getElem? ha)).2 j hj e)
theorem LW.vaS (Lw : LW s base adm ad dc D σ η σm H locs) : va_S (LA s) s.heap H locs := Lw.2.2.2.2.2.2.2
theorem LW.lam (Lw : LW s base adm ad dc D σ η σm H locs) {q : Nat} (h : Am adm q) : LA s q := by
  obtain ⟨k, hk, rfl⟩ := h
  exact Lw.2.2.1.2.2.1 k hk
theorem l_callA (C0 : LC dc D p s m args meth c b L xs) (Lw : LW s base adm ad dc D σ η σm H locs) (hl : lv_has ls 4 lv) (hx : EX η η') (hk : 0 ∈ ksOf η) (hs : η.1 0 = (0, 0, 0, fl)) {r0 : Int32}
    (hM : Met l y (ws_ y bytes maxL ret) rm (aPc ad dc D (Ax s adm) σ η (.ref (ad 0) :: As)) (aQi ad dc D (Ax s adm) r0 σ' η') mc ms (Ax s adm)) (cw : CallW R s args "HotIronLaw" RX0 idx y bytes maxL ret (ws_ y bytes maxL ret) rm mc ms As.length) (hst : st0 = As.reverse ++ .ref (ad 0) :: rest) (hroom : (rest.map fun v => v.category).sum ≤ 8) (hdg : decode code pc = .ok (.invokevirtual idx, 3)) (hf : cells + mc ≤ R.cells ∧ slots + ms ≤ R.slots)
    (kk : ∀ H1 locs1 n, η'.2.1 ≤ n → LW s base adm ad dc D σ' (η'.1, n, η'.2.2) σm H1 locs1 → W p l e R s m args below meth c H1 locs1 (cells + mc) (slots + ms) Q (F0 m (pc + 3) ls (.int r0 :: rest))) : W p l e R s m args below meth c H locs cells slots Q (F0 m pc ls st0) := by
  refine va_calli (va_runV (cc := code) ⟨C0.1, C0.2.1, C0.2.2.1, C0.2.2.2.1, C0.2.2.2.2.1⟩ hM cw (l_preA C0 Lw hk hs) rfl rfl hl.1 hst (lv_room hroom) hdg hf) Lw.vaS (fun q _ h => h.1) (fun q h => h.1) (fun r u t H1 locs1 ht hvm hr hB hz hk1 hS => ?_)
  subst hr
  obtain ⟨n, hn, L1⟩ := Lw.next hx hz (ht ▸ hB : va_P D vwCl (wsOf (ksOf η') η'.1 ad dc σ') H1) (Lw.mkeep hk1) hS
  exact kk H1 locs1 n hn L1
theorem l_callAW (C0 : LC dc D p s m args meth c b L xs) (Lw : LW s base adm ad dc D σ η σm H locs) (hl : lv_has ls 4 lv) (hx : EX η η') (hk : 0 ∈ ksOf η) (hs : η.1 0 = (0, 0, 0, fl)) {r0 : Int32}
    (hM : Met l y (wsW_ y bytes maxL ret hh) rm (aPc ad dc D (Ax s adm) σ η (.ref (ad 0) :: As)) (aQi ad dc D (Ax s adm) r0 σ' η') mc ms (Ax s adm)) (cw : vx_CVW R s args "HotIronLaw" RX0 idx y bytes maxL ret hh (wsW_ y bytes maxL ret hh) rm mc ms As.length) (hst : st0 = As.reverse ++ .ref (ad 0) :: rest) (hroom : (rest.map fun v => v.category).sum ≤ 8) (hdg : decode code pc = .ok (.invokevirtual idx, 3)) (hf : cells + mc ≤ R.cells ∧ slots + ms ≤ R.slots)
    (kk : ∀ H1 locs1 n, η'.2.1 ≤ n → LW s base adm ad dc D σ' (η'.1, n, η'.2.2) σm H1 locs1 → W p l e R s m args below meth c H1 locs1 (cells + mc) (slots + ms) Q (F0 m (pc + 3) ls (.int r0 :: rest))) : W p l e R s m args below meth c H locs cells slots Q (F0 m pc ls st0) := by
  refine va_calli (vx_runVW (cc := code) ⟨C0.1, C0.2.1, C0.2.2.1, C0.2.2.2.1, C0.2.2.2.2.1⟩ hM cw (l_preA C0 Lw hk hs) rfl rfl hl.1 hst (lv_room hroom) hdg hf) Lw.vaS (fun q _ h => h.1) (fun q h => h.1) (fun r u t H1 locs1 ht hvm hr hB hz hk1 hS => ?_)
  subst hr
  obtain ⟨n, hn, L1⟩ := Lw.next hx hz (ht ▸ hB : va_P D vwCl (wsOf (ksOf η') η'.1 ad dc σ') H1) (Lw.mkeep hk1) hS
  exact kk H1 locs1 n hn L1
theorem l_callG (C0 : LC dc D p s m args meth c b L xs) (Lw : LW s base adm ad dc D σ η σm H locs) (hl : lv_has ls 4 lv) (hk : 0 ∈ ksOf η) (hs : η.1 0 = (0, 0, 0, fl)) {r0 : Int32}
    (hM : Met l y (ws_ y bytes maxL ret) rm (gPc η.1 (ksOf η) ad dc D σ (.ref (ad 0) :: As)) (gQi η.1 (ksOf η) ad dc D (Ax s adm) σ' r0) 0 0 (Ax s adm)) (cw : CallW R s args "HotIronLaw" RX0 idx y bytes maxL ret (ws_ y bytes maxL ret) rm 0 0 As.length) (hst : st0 = As.reverse ++ .ref (ad 0) :: rest) (hroom : (rest.map fun v => v.category).sum ≤ 8) (hdg : decode code pc = .ok (.invokevirtual idx, 3)) (hf : cells ≤ R.cells ∧ slots ≤ R.slots)
    (kk : ∀ H1 locs1 n, η.2.1 ≤ n → LW s base adm ad dc D σ' (η.1, n, η.2.2) σm H1 locs1 → W p l e R s m args below meth c H1 locs1 cells slots Q (F0 m (pc + 3) ls (.int r0 :: rest))) : W p l e R s m args below meth c H locs cells slots Q (F0 m pc ls st0) := by
  refine va_calli (va_runV (cc := code) ⟨C0.1, C0.2.1, C0.2.2.1, C0.2.2.2.1, C0.2.2.2.2.1⟩ hM cw (l_preG C0 Lw hk hs) rfl rfl hl.1 hst (lv_room hroom) hdg hf) Lw.vaS (fun q _ h => h.1) (fun q h => h.1) (fun r u t H1 locs1 ht hvm hr hB hz hk1 hS => ?_)
  subst hr
  obtain ⟨n, hn, L1⟩ := Lw.next EX.rf hz (ht ▸ hB : va_P D vwCl (wsOf (ksOf η) η.1 ad dc σ') H1) (Lw.mkeep hk1) hS
  exact kk H1 locs1 n hn L1
theorem l_callGl (C0 : LC dc D p s m args meth c b L xs) (Lw : LW s base adm ad dc D σ η σm H locs) (hl : lv_has ls 4 lv) (hk : 0 ∈ ksOf η) (hs : η.1 0 = (0, 0, 0, fl)) {r0 : Int64}
    (hM : Met l y (ws_ y bytes maxL ret) rm (gPc η.1 (ksOf η) ad dc D σ (.ref (ad 0) :: As)) (gQl η.1 (ksOf η) ad dc D (Ax s adm) σ' r0) 0 0 (Ax s adm)) (cw : CallW R s args "HotIronLaw" RX0 idx y bytes maxL ret (ws_ y bytes maxL ret) rm 0 0 As.length) (hst : st0 = As.reverse ++ .ref (ad 0) :: rest) (hroom : (rest.map fun v => v.category).sum ≤ 8) (hdg : decode code pc = .ok (.invokevirtual idx, 3)) (hf : cells ≤ R.cells ∧ slots ≤ R.slots)
    (kk : ∀ H1 locs1 n, η.2.1 ≤ n → LW s base adm ad dc D σ' (η.1, n, η.2.2) σm H1 locs1 → W p l e R s m args below meth c H1 locs1 cells slots Q (F0 m (pc + 3) ls (.long r0 :: rest))) : W p l e R s m args below meth c H locs cells slots Q (F0 m pc ls st0) := by
  refine va_calll (va_runV (cc := code) ⟨C0.1, C0.2.1, C0.2.2.1, C0.2.2.2.1, C0.2.2.2.2.1⟩ hM cw (l_preG C0 Lw hk hs) rfl rfl hl.1 hst (lv_room hroom) hdg hf) Lw.vaS (fun q _ h => h.1) (fun q h => h.1) (fun r u t H1 locs1 ht hvm hr hB hz hk1 hS => ?_)
  subst hr
  obtain ⟨n, hn, L1⟩ := Lw.next EX.rf hz (ht ▸ hB : va_P D vwCl (wsOf (ksOf η) η.1 ad dc σ') H1) (Lw.mkeep hk1) hS
  exact kk H1 locs1 n hn L1
theorem l_callM (C0 : LC dc D p s m args meth c b L xs) (Lw : LW s base adm ad dc D σ η σm H locs) (hl : lv_has ls 4 lv) {r0 : Int32}
    (hM : Met l y (ws_ y bytes maxL ret) rm (gPc mSh mKs adm dc D σm (.ref (adm 0) :: As)) (gQi mSh mKs adm dc D (Am adm) σm' r0) 0 0 (Am adm)) (cw : CallW R s args "HotIronLaw" RX6 idx y bytes maxL ret (ws_ y bytes maxL ret) rm 0 0 As.length) (hst : st0 = As.reverse ++ .ref (adm 0) :: rest) (hroom : (rest.map fun v => v.category).sum ≤ 8) (hdg : decode code pc = .ok (.invokevirtual idx, 3)) (hf : cells ≤ R.cells ∧ slots ≤ R.slots)
    (kk : ∀ H1 locs1 n, η.2.1 ≤ n → LW s base adm ad dc D σ (η.1, n, η.2.2) σm' H1 locs1 → W p l e R s m args below meth c H1 locs1 cells slots Q (F0 m (pc + 3) ls (.int r0 :: rest))) : W p l e R s m args below meth c H locs cells slots Q (F0 m pc ls st0) := by
  refine va_calli (va_runV (cc := code) ⟨C0.1, C0.2.1, C0.2.2.1, C0.2.2.2.1, C0.2.2.2.2.1⟩ hM cw (l_preM C0 Lw) rfl rfl hl.1 hst (lv_room hroom) hdg hf) Lw.vaS (fun q _ h => Lw.lam h) (fun q h => Lw.lam h) (fun r u t H1 locs1 ht hvm hr hB hz hk1 hS => ?_)
  subst hr
  obtain ⟨n, hn, L1⟩ := Lw.next EX.rf hz (Lw.xkeep hk1) (ht ▸ hB : va_P D vwCl (wsOf mKs mSh adm dc σm') H1) hS
  exact kk H1 locs1 n hn L1
theorem l_callMl (C0 : LC dc D p s m args meth c b L xs) (Lw : LW s base adm ad dc D σ η σm H locs) (hl : lv_has ls 4 lv) {r0 : Int64}
    (hM : Met l y (ws_ y bytes maxL ret) rm (gPc mSh mKs adm dc D σm (.ref (adm 0) :: As)) (gQl mSh mKs adm dc D (Am adm) σm' r0) 0 0 (Am adm)) (cw : CallW R s args "HotIronLaw" RX6 idx y bytes maxL ret (ws_ y bytes maxL ret) rm 0 0 As.length) (hst : st0 = As.reverse ++ .ref (adm 0) :: rest) (hroom : (rest.map fun v => v.category).sum ≤ 8) (hdg : decode code pc = .ok (.invokevirtual idx, 3)) (hf : cells ≤ R.cells ∧ slots ≤ R.slots)
    (kk : ∀ H1 locs1 n, η.2.1 ≤ n → LW s base adm ad dc D σ (η.1, n, η.2.2) σm' H1 locs1 → W p l e R s m args below meth c H1 locs1 cells slots Q (F0 m (pc + 3) ls (.long r0 :: rest))) : W p l e R s m args below meth c H locs cells slots Q (F0 m pc ls st0) := by
  refine va_calll (va_runV (cc := code) ⟨C0.1, C0.2.1, C0.2.2.1, C0.2.2.2.1, C0.2.2.2.2.1⟩ hM cw (l_preM C0 Lw) rfl rfl hl.1 hst (lv_room hroom) hdg hf) Lw.vaS (fun q _ h => Lw.lam h) (fun q h => Lw.lam h) (fun r u t H1 locs1 ht hvm hr hB hz hk1 hS => ?_)
  subst hr
  obtain ⟨n, hn, L1⟩ := Lw.next EX.rf hz (Lw.xkeep hk1) (ht ▸ hB : va_P D vwCl (wsOf mKs mSh adm dc σm') H1) hS
  exact kk H1 locs1 n hn L1
theorem Am_of {k : Nat} (hk : k ∈ mKs) : Am adm (adm k) := ⟨k, List.mem_range.mp hk, rfl⟩
end LB
