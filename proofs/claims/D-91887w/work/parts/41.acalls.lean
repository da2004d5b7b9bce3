/-! contracts of methods that make cells, and their calls; stores into new objects -/
set_option maxRecDepth 100000
def RA (f lo c z : Nat) : Room := { frames := f, cells := c, slots := z, locals := lo }
def aPc (ad : Nat → Nat) (dc : Nat → ClassId) (D : va_G) (A : Nat → Prop) (σ : St) (η : Eta) (av : List Value) : Array Value → State → Prop := va_Pc av (fun U => va_P D vwCl (wsOf (ksOf η) η.1 ad dc σ) U.heap ∧ va_K D vwCl (tysOf dc) U ∧ XN dc U ∧ EA ad dc A U η.2.1 η.2.2 η 0 0)
abbrev aB (ad : Nat → Nat) (dc : Nat → ClassId) (D : va_G) (σ : St) (η : Eta) : State → Prop := fun t => va_P D vwCl (wsOf (ksOf η) η.1 ad dc σ) t.heap
abbrev aQi (ad : Nat → Nat) (dc : Nat → ClassId) (D : va_G) (A : Nat → Prop) (r0 : Int32) (σ : St) (η : Eta) : Array Value → State → Outcome → State → Prop := va_Qi (fun (r : Int32) (_ : Unit) => r = r0) (fun _ t => aB ad dc D σ η t) A
abbrev aQr (ad : Nat → Nat) (dc : Nat → ClassId) (D : va_G) (A : Nat → Prop) (r0 : Nat) (σ : St) (η : Eta) : Array Value → State → Outcome → State → Prop := va_Qr (fun (_ : Unit) => True) (fun _ a t => a = ad r0 ∧ aB ad dc D σ η t) A
abbrev aQv (ad : Nat → Nat) (dc : Nat → ClassId) (D : va_G) (A : Nat → Prop) (σ : St) (η : Eta) : Array Value → State → Outcome → State → Prop := va_Qv (fun (_ : Unit) => True) (fun _ t => aB ad dc D σ η t) A
theorem EA.at0 {ad : Nat → Nat} {dc : Nat → ClassId} {A : Nat → Prop} {s U : State} {n0 z0 : Nat} {η : Eta} {cells slots : Nat} (E : EA ad dc A s n0 z0 η cells slots) (hz : U.heap.size = ad η.2.1) (hvm : s.vm.Alike U.vm) (hq : ∀ a : Nat, a < s.heap.size → ¬ A a → U.heap[a]? = s.heap[a]?) (hR : ∀ own k tx a, vk_R own k tx a s → vk_R own k tx a U) : EA ad dc A U η.2.1 η.2.2 η 0 0 := by
  obtain ⟨e1, e2, e3, e4, ⟨base, e5, e6⟩, e7⟩ := E
  exact ⟨rfl, rfl, Or.inl rfl, e4, ⟨base, by rw [hz, e6 _ (by omega)], fun k hk => e6 k (by omega)⟩, fun k hk => e7.1 k (by omega), e7.2.to hvm hq hR⟩
theorem EA.same {ad : Nat → Nat} {dc : Nat → ClassId} {A : Nat → Prop} {s U : State} {n0 z0 : Nat} {η : Eta} {cells slots : Nat} (E : EA ad dc A s n0 z0 η cells slots) (hz : U.heap = s.heap) (hv : s.vm = U.vm) : EA ad dc A U n0 z0 η cells slots := by
  obtain ⟨e1, e2, e3, e4, ⟨base, e5, e6⟩, e7⟩ := E
  exact ⟨e1, e2, e3, e4, ⟨base, by rw [hz]; exact e5, e6⟩, e7.1, e7.2.to (hv ▸ Vm.Alike.refl s.vm) (fun a _ _ => by rw [hz]) (fun _ _ _ _ h => vk_R.same hv.symm h)⟩
theorem aPc_blind (ad : Nat → Nat) (dc : Nat → ClassId) (D : va_G) (A : Nat → Prop) (σ : St) (η : Eta) (av : List Value) : FrameBlind (aPc ad dc D A σ η av) := fun a U g mk q => by
  obtain ⟨q0, qP, qK, qN, qE⟩ := q
  exact ⟨q0, qP, va_K.moved (u := U) (U := U.calling g mk a) (Vm.Alike.refl U.vm) qK, qN.same rfl, qE.same rfl rfl⟩
section ACALL
variable {p : Program} {l : Launch} {e : Env} {R : Room} {s : State} {m : MethodId} {args : Array Value} {below : List Frame} {meth : Method} {c : Code} {H : Heap} {locs : List Loc} {cells slots : Nat} {Q : State → Prop}
variable {cc : ByteArray} {nL : Nat} {ad : Nat → Nat} {dc : Nat → ClassId} {D : va_G} {A : Nat → Prop} {own : String} {σ σ' : St} {η η' : Eta} {pc n0 z0 : Nat} {ls : Array Slot} {rest st0 : List Value}
variable {y : MethodName} {bytes : ByteArray} {maxL : Nat} {ret : Option FieldType} {rm : Room} {idx mc ms : Nat} {As : List Value} {lv : List (Nat × Value)} {host : String}
theorem a_pc (C0 : Cx ad dc D own cc nL p s m args meth c) (G : GW η.1 (ksOf η) ad dc D A s σ H locs) (E : EA ad dc A s n0 z0 η cells slots) (hsz : H.size ≤ s.heap.size + cells) {av : List Value} : FrameBlind (aPc ad dc D A σ η av) ∧ ∀ U : State, U.heap = H → s.WarmedH U.vm → aPc ad dc D A σ η av av.toArray U :=
  ⟨aPc_blind _ _ _ _ _ _ _, fun U hU hW => ⟨rfl, by rw [hU]; exact G.1, va_K.moved hW.alike C0.2.2.2.2.2.1, C0.2.2.2.2.2.2.2.1.warm hW, E.at0 (by rw [hU]; exact ea_size G E hsz) hW.alike (fun a h1 h2 => by rw [hU]; exact G.2.1.2.1 a h1 h2) (fun _ _ _ _ h => vk_R.warm hW h)⟩⟩
theorem a_preV (C0 : Cx ad dc D own cc nL p s m args meth c) (G : GW η.1 (ksOf η) ad dc D A s σ H locs) (E : EA ad dc A s n0 z0 η cells slots) (hsz : H.size ≤ s.heap.size + cells) {C : String} {T : u_T} {n ci : Nat} {fl : List (Nat × Nat)} (hc : vwCl[ci]? = some (C, T, n)) {k : Nat} (hk : k ∈ ksOf η) (hs : η.1 k = (0, ci, 0, fl)) : PreV s H C (ad k) (aPc ad dc D A σ η (.ref (ad k) :: As)) As := by
  obtain ⟨i, hi⟩ := List.getElem?_of_mem hk
  exact ⟨(a_pc C0 G E hsz).1, va_recv C0.2.2.2.2.2.1 G.1 (ci := ci) (q0 := i) hc ((wsOf_at hi).trans (by rw [ce_o hs])), (a_pc C0 G E hsz).2⟩
/-- behind a call that made cells -/
theorem a_back {H1 : Heap} {locs1 : List Loc} (G : GW η.1 (ksOf η) ad dc D A s σ H locs) (E : EA ad dc A s n0 z0 η cells slots) (hx : EX η η') (hB : va_P D vwCl (wsOf (ksOf η') η'.1 ad dc σ') H1) (hS : va_S A s.heap H1 locs1) : GW η'.1 (ksOf η') ad dc D A s σ' H1 locs1 ∧ EA ad dc A s n0 z0 η' (cells + (η'.2.1 - η.2.1)) (slots + (η'.2.2 - η.2.2)) := by
  refine ⟨⟨hB, hS, ks_nd _, fun k hk => ?_⟩, E.ex hx⟩
  rcases Nat.lt_or_ge k η.2.1 with q | q
  · refine G.2.2.2 k (ks_mem E.2.2.2.1 ?_)
    have := (ks_lt hk).2
    rwa [hx.2.2.1 k q] at this
  · exact E.2.2.2.2.2.1 k (by have := E.1; omega)
/-- a contract's run, as the calls want it -/
abbrev aMet (l : Launch) (ad : Nat → Nat) (dc : Nat → ClassId) (D : va_G) (A : Nat → Prop) (y : MethodName) (bytes : ByteArray) (maxL : Nat) (ret : Option FieldType) (f lo : Nat) (σ : St) (η η' : Eta) (av : List Value) (Qc : Array Value → State → Outcome → State → Prop) : Prop := Met l y (ws_ y bytes maxL ret) (RA f lo (η'.2.1 - η.2.1) (η'.2.2 - η.2.2)) (aPc ad dc D A σ η av) Qc (η'.2.1 - η.2.1) (η'.2.2 - η.2.2) A
theorem a_callVi {f lo : Nat} (C0 : Cx ad dc D own cc nL p s m args meth c) (G : GW η.1 (ksOf η) ad dc D A s σ H locs) (E : EA ad dc A s n0 z0 η cells slots) (hl : lv_has ls nL lv) {C : String} {T : u_T} {n ci : Nat} {fl : List (Nat × Nat)} (hc : vwCl[ci]? = some (C, T, n)) {k : Nat} (hk : k ∈ ksOf η) (hs : η.1 k = (0, ci, 0, fl)) {r0 : Int32} (hx : EX η η')
    (hM : aMet l ad dc D A y bytes maxL ret f lo σ η η' (.ref (ad k) :: As) (aQi ad dc D A r0 σ' η')) (cw : CallW R s args own C idx y bytes maxL ret (ws_ y bytes maxL ret) (RA f lo (η'.2.1 - η.2.1) (η'.2.2 - η.2.2)) (η'.2.1 - η.2.1) (η'.2.2 - η.2.2) As.length) (hst : st0 = As.reverse ++ .ref (ad k) :: rest) (hroom : (rest.map fun v => v.category).sum ≤ 8) (hdg : decode cc pc = .ok (.invokevirtual idx, 3)) (hf : cells + (η'.2.1 - η.2.1) ≤ R.cells ∧ slots + (η'.2.2 - η.2.2) ≤ R.slots)
    (kk : ∀ H1 locs1, GW η'.1 (ksOf η') ad dc D A s σ' H1 locs1 → EA ad dc A s n0 z0 η' (cells + (η'.2.1 - η.2.1)) (slots + (η'.2.2 - η.2.2)) → W p l e R s m args below meth c H1 locs1 (cells + (η'.2.1 - η.2.1)) (slots + (η'.2.2 - η.2.2)) Q (F0 m (pc + 3) ls (.int r0 :: rest))) : W p l e R s m args below meth c H locs cells slots Q (F0 m pc ls st0) := by
  refine W_size fun hsz => ?_
  refine va_calli (va_runV ⟨C0.1, C0.2.1, C0.2.2.1, C0.2.2.2.1, C0.2.2.2.2.1⟩ hM cw (a_preV C0 G E hsz hc hk hs) rfl rfl hl.1 hst (lv_room hroom) hdg hf) G.2.1 (fun _ _ h => h) (fun _ h => h) (fun r u t H1 locs1 ht hvm hr hB hz hk1 hS => ?_)
  subst hr
  obtain ⟨G1, E1⟩ := a_back (σ' := σ') G E hx (ht ▸ hB) hS
  exact kk H1 locs1 G1 E1
theorem a_callVv {f lo : Nat} (C0 : Cx ad dc D own cc nL p s m args meth c) (G : GW η.1 (ksOf η) ad dc D A s σ H locs) (E : EA ad dc A s n0 z0 η cells slots) (hl : lv_has ls nL lv) {C : String} {T : u_T} {n ci : Nat} {fl : List (Nat × Nat)} (hc : vwCl[ci]? = some (C, T, n)) {k : Nat} (hk : k ∈ ksOf η) (hs : η.1 k = (0, ci, 0, fl)) (hx : EX η η')
    (hM : aMet l ad dc D A y bytes maxL ret f lo σ η η' (.ref (ad k) :: As) (aQv ad dc D A σ' η')) (cw : CallW R s args own C idx y bytes maxL ret (ws_ y bytes maxL ret) (RA f lo (η'.2.1 - η.2.1) (η'.2.2 - η.2.2)) (η'.2.1 - η.2.1) (η'.2.2 - η.2.2) As.length) (hst : st0 = As.reverse ++ .ref (ad k) :: rest) (hroom : (rest.map fun v => v.category).sum ≤ 8) (hdg : decode cc pc = .ok (.invokevirtual idx, 3)) (hf : cells + (η'.2.1 - η.2.1) ≤ R.cells ∧ slots + (η'.2.2 - η.2.2) ≤ R.slots)
    (kk : ∀ H1 locs1, GW η'.1 (ksOf η') ad dc D A s σ' H1 locs1 → EA ad dc A s n0 z0 η' (cells + (η'.2.1 - η.2.1)) (slots + (η'.2.2 - η.2.2)) → W p l e R s m args below meth c H1 locs1 (cells + (η'.2.1 - η.2.1)) (slots + (η'.2.2 - η.2.2)) Q (F0 m (pc + 3) ls rest)) : W p l e R s m args below meth c H locs cells slots Q (F0 m pc ls st0) := by
  refine W_size fun hsz => ?_
  refine va_callv (va_runV ⟨C0.1, C0.2.1, C0.2.2.1, C0.2.2.2.1, C0.2.2.2.2.1⟩ hM cw (a_preV C0 G E hsz hc hk hs) rfl rfl hl.1 hst (lv_room hroom) hdg hf) G.2.1 (fun _ _ h => h) (fun _ h => h) (fun u t H1 locs1 ht hvm hr hB hz hk1 hS => ?_)
  obtain ⟨G1, E1⟩ := a_back (σ' := σ') G E hx (ht ▸ hB) hS
  exact kk H1 locs1 G1 E1
theorem a_callVr {f lo : Nat} (C0 : Cx ad dc D own cc nL p s m args meth c) (G : GW η.1 (ksOf η) ad dc D A s σ H locs) (E : EA ad dc A s n0 z0 η cells slots) (hl : lv_has ls nL lv) {C : String} {T : u_T} {n ci : Nat} {fl : List (Nat × Nat)} (hc : vwCl[ci]? = some (C, T, n)) {k : Nat} (hk : k ∈ ksOf η) (hs : η.1 k = (0, ci, 0, fl)) {r0 : Nat} (hx : EX η η')
    (hM : aMet l ad dc D A y bytes maxL ret f lo σ η η' (.ref (ad k) :: As) (aQr ad dc D A r0 σ' η')) (cw : CallW R s args own C idx y bytes maxL ret (ws_ y bytes maxL ret) (RA f lo (η'.2.1 - η.2.1) (η'.2.2 - η.2.2)) (η'.2.1 - η.2.1) (η'.2.2 - η.2.2) As.length) (hst : st0 = As.reverse ++ .ref (ad k) :: rest) (hroom : (rest.map fun v => v.category).sum ≤ 8) (hdg : decode cc pc = .ok (.invokevirtual idx, 3)) (hf : cells + (η'.2.1 - η.2.1) ≤ R.cells ∧ slots + (η'.2.2 - η.2.2) ≤ R.slots)
    (kk : ∀ H1 locs1, GW η'.1 (ksOf η') ad dc D A s σ' H1 locs1 → EA ad dc A s n0 z0 η' (cells + (η'.2.1 - η.2.1)) (slots + (η'.2.2 - η.2.2)) → W p l e R s m args below meth c H1 locs1 (cells + (η'.2.1 - η.2.1)) (slots + (η'.2.2 - η.2.2)) Q (F0 m (pc + 3) ls (.ref (ad r0) :: rest))) : W p l e R s m args below meth c H locs cells slots Q (F0 m pc ls st0) := by
  refine W_size fun hsz => ?_
  refine va_callr (va_runV ⟨C0.1, C0.2.1, C0.2.2.1, C0.2.2.2.1, C0.2.2.2.2.1⟩ hM cw (a_preV C0 G E hsz hc hk hs) rfl rfl hl.1 hst (lv_room hroom) hdg hf) G.2.1 (fun _ _ h => h) (fun _ h => h) (fun u ra t H1 locs1 ht hvm hr hB hz hk1 hS => ?_)
  obtain ⟨rfl, hB⟩ := hB
  obtain ⟨G1, E1⟩ := a_back (σ' := σ') G E hx (ht ▸ hB) hS
  exact kk H1 locs1 G1 E1
theorem a_callSr {f lo : Nat} (C0 : Cx ad dc D own cc nL p s m args meth c) (G : GW η.1 (ksOf η) ad dc D A s σ H locs) (E : EA ad dc A s n0 z0 η cells slots) (hl : lv_has ls nL lv) {r0 : Nat} (hx : EX η η')
    (hM : aMet l ad dc D A y bytes maxL ret f lo σ η η' As (aQr ad dc D A r0 σ' η')) (cw : CallB R s args own idx y bytes maxL ret (ws_ y bytes maxL ret) (RA f lo (η'.2.1 - η.2.1) (η'.2.2 - η.2.2)) (η'.2.1 - η.2.1) (η'.2.2 - η.2.2) As.length ∧ (Cond.static y).before args s = true) (hst : st0 = As.reverse ++ rest) (hroom : (rest.map fun v => v.category).sum ≤ 8) (hdg : decode cc pc = .ok (.invokestatic idx, 3)) (hf : cells + (η'.2.1 - η.2.1) ≤ R.cells ∧ slots + (η'.2.2 - η.2.2) ≤ R.slots)
    (kk : ∀ H1 locs1, GW η'.1 (ksOf η') ad dc D A s σ' H1 locs1 → EA ad dc A s n0 z0 η' (cells + (η'.2.1 - η.2.1)) (slots + (η'.2.2 - η.2.2)) → W p l e R s m args below meth c H1 locs1 (cells + (η'.2.1 - η.2.1)) (slots + (η'.2.2 - η.2.2)) Q (F0 m (pc + 3) ls (.ref (ad r0) :: rest))) : W p l e R s m args below meth c H locs cells slots Q (F0 m pc ls st0) := by
  refine W_size fun hsz => ?_
  refine va_callr (va_runS ⟨C0.1, C0.2.1, C0.2.2.1, C0.2.2.2.1, C0.2.2.2.2.1⟩ hM cw (a_pc C0 G E hsz) rfl rfl hl.1 hst (lv_room hroom) hdg hf) G.2.1 (fun _ _ h => h) (fun _ h => h) (fun u ra t H1 locs1 ht hvm hr hB hz hk1 hS => ?_)
  obtain ⟨rfl, hB⟩ := hB
  obtain ⟨G1, E1⟩ := a_back (σ' := σ') G E hx (ht ▸ hB) hS
  exact kk H1 locs1 G1 E1
/-- a constructor's call -/
theorem a_callI {f lo : Nat} (C0 : Cx ad dc D own cc nL p s m args meth c) (G : GW η.1 (ksOf η) ad dc D A s σ H locs) (E : EA ad dc A s n0 z0 η cells slots) (hl : lv_has ls nL lv) {k : Nat} (hx : EX η η')
    (hM : aMet l ad dc D A y bytes maxL none f lo σ η η' (.ref (ad k) :: As) (aQv ad dc D A σ' η')) (cw : CallB R s args own idx y bytes maxL none (ws_ y bytes maxL none) (RA f lo (η'.2.1 - η.2.1) (η'.2.2 - η.2.2)) (η'.2.1 - η.2.1) (η'.2.2 - η.2.2) As.length ∧ y.name = "<init>" ∧ (Cond.instanceMethod y).before args s = true) (hst : st0 = As.reverse ++ .ref (ad k) :: rest) (hroom : (rest.map fun v => v.category).sum ≤ 8) (hdg : decode cc pc = .ok (.invokespecial idx, 3)) (hf : cells + (η'.2.1 - η.2.1) ≤ R.cells ∧ slots + (η'.2.2 - η.2.2) ≤ R.slots)
    (kk : ∀ H1 locs1, GW η'.1 (ksOf η') ad dc D A s σ' H1 locs1 → EA ad dc A s n0 z0 η' (cells + (η'.2.1 - η.2.1)) (slots + (η'.2.2 - η.2.2)) → W p l e R s m args below meth c H1 locs1 (cells + (η'.2.1 - η.2.1)) (slots + (η'.2.2 - η.2.2)) Q (F0 m (pc + 3) ls rest)) : W p l e R s m args below meth c H locs cells slots Q (F0 m pc ls st0) := by
  refine W_size fun hsz => ?_
  refine va_callv (va_runI ⟨C0.1, C0.2.1, C0.2.2.1, C0.2.2.2.1, C0.2.2.2.2.1⟩ hM cw (a_pc C0 G E hsz) rfl rfl hl.1 hst (lv_room hroom) hdg hf) G.2.1 (fun _ _ h => h) (fun _ h => h) (fun u t H1 locs1 ht hvm hr hB hz hk1 hS => ?_)
  obtain ⟨G1, E1⟩ := a_back (σ' := σ') G E hx (ht ▸ hB) hS
  exact kk H1 locs1 G1 E1
theorem a_callIN {f lo : Nat} (C0 : Cx ad dc D own cc nL p s m args meth c) (G : GW η.1 (ksOf η) ad dc D A s σ H locs) (E : EA ad dc A s n0 z0 η cells slots) (hl : lv_has ls nL lv) {k : Nat} (hx : EX η η')
    (hM : aMet l ad dc D A y bytes maxL none f lo σ η η' (.ref (ad k) :: As) (aQv ad dc D A σ' η')) (cw : va_CN R s args own idx y host bytes maxL none (ws_ y bytes maxL none) (RA f lo (η'.2.1 - η.2.1) (η'.2.2 - η.2.2)) (η'.2.1 - η.2.1) (η'.2.2 - η.2.2) As.length ∧ y.name = "<init>" ∧ (Cond.instanceMethod y).before args s = true) (hst : st0 = As.reverse ++ .ref (ad k) :: rest) (hroom : (rest.map fun v => v.category).sum ≤ 8) (hdg : decode cc pc = .ok (.invokespecial idx, 3)) (hf : cells + (η'.2.1 - η.2.1) ≤ R.cells ∧ slots + (η'.2.2 - η.2.2) ≤ R.slots)
    (kk : ∀ H1 locs1, GW η'.1 (ksOf η') ad dc D A s σ' H1 locs1 → EA ad dc A s n0 z0 η' (cells + (η'.2.1 - η.2.1)) (slots + (η'.2.2 - η.2.2)) → W p l e R s m args below meth c H1 locs1 (cells + (η'.2.1 - η.2.1)) (slots + (η'.2.2 - η.2.2)) Q (F0 m (pc + 3) ls rest)) : W p l e R s m args below meth c H locs cells slots Q (F0 m pc ls st0) := by
  refine W_size fun hsz => ?_
  refine va_callv (va_runIN ⟨C0.1, C0.2.1, C0.2.2.1, C0.2.2.2.1, C0.2.2.2.2.1⟩ hM cw (a_pc C0 G E hsz) rfl rfl hl.1 hst (lv_room hroom) hdg hf) G.2.1 (fun _ _ h => h) (fun _ h => h) (fun u t H1 locs1 ht hvm hr hB hz hk1 hS => ?_)
  obtain ⟨G1, E1⟩ := a_back (σ' := σ') G E hx (ht ▸ hB) hS
  exact kk H1 locs1 G1 E1
end ACALL
