/-! contracts over the store, and their calls -/
def gPc (sh : Nat → Sh) (ks : List Nat) (ad : Nat → Nat) (dc : Nat → ClassId) (D : va_G) (σ : St) (av : List Value) : Array Value → State → Prop := va_Pc av (fun U => va_P D vwCl (wsOf ks sh ad dc σ) U.heap ∧ va_K D vwCl (tysOf dc) U ∧ XN dc U)
abbrev gB (sh : Nat → Sh) (ks : List Nat) (ad : Nat → Nat) (dc : Nat → ClassId) (D : va_G) (σ : St) : Unit → State → Prop := fun _ t => va_P D vwCl (wsOf ks sh ad dc σ) t.heap
abbrev gQi (sh : Nat → Sh) (ks : List Nat) (ad : Nat → Nat) (dc : Nat → ClassId) (D : va_G) (A : Nat → Prop) (σ : St) (r0 : Int32) : Array Value → State → Outcome → State → Prop := va_Qi (fun (r : Int32) (_ : Unit) => r = r0) (gB sh ks ad dc D σ) A
abbrev gQl (sh : Nat → Sh) (ks : List Nat) (ad : Nat → Nat) (dc : Nat → ClassId) (D : va_G) (A : Nat → Prop) (σ : St) (r0 : Int64) : Array Value → State → Outcome → State → Prop := va_Ql (fun (r : Int64) (_ : Unit) => r = r0) (gB sh ks ad dc D σ) A
abbrev gQv (sh : Nat → Sh) (ks : List Nat) (ad : Nat → Nat) (dc : Nat → ClassId) (D : va_G) (A : Nat → Prop) (σ : St) : Array Value → State → Outcome → State → Prop := va_Qv (fun (_ : Unit) => True) (gB sh ks ad dc D σ) A
theorem gPc_blind (sh : Nat → Sh) (ks : List Nat) (ad : Nat → Nat) (dc : Nat → ClassId) (D : va_G) (σ : St) (av : List Value) : FrameBlind (gPc sh ks ad dc D σ av) := fun a U g mk q => by
  obtain ⟨q0, qP, qK, qN⟩ := q
  exact ⟨q0, qP, va_K.moved (u := U) (U := U.calling g mk a) (Vm.Alike.refl U.vm) qK, qN.same rfl⟩
section CALLS
variable {p : Program} {l : Launch} {e : Env} {R : Room} {s : State} {m : MethodId} {args : Array Value} {below : List Frame} {meth : Method} {c : Code} {H : Heap} {locs : List Loc} {cells slots : Nat} {Q : State → Prop}
variable {cc : ByteArray} {nL : Nat} {sh : Nat → Sh} {ks : List Nat} {ad : Nat → Nat} {dc : Nat → ClassId} {D : va_G} {A : Nat → Prop} {own : String} {σ σ' : St} {pc : Nat} {ls : Array Slot} {rest st0 : List Value}
variable {y : MethodName} {bytes : ByteArray} {maxL : Nat} {ret : Option FieldType} {rm : Room} {idx : Nat} {As : List Value} {lv : List (Nat × Value)}
theorem g_preV (C0 : Cx ad dc D own cc nL p s m args meth c) (G : GW sh ks ad dc D A s σ H locs) {C : String} {T : u_T} {n ci : Nat} {fl : List (Nat × Nat)} (hc : vwCl[ci]? = some (C, T, n)) {k : Nat} (hk : k ∈ ks) (hs : sh k = (0, ci, 0, fl)) : PreV s H C (ad k) (gPc sh ks ad dc D σ (.ref (ad k) :: As)) As := by
  obtain ⟨i, hi⟩ := List.getElem?_of_mem hk
  exact ⟨gPc_blind _ _ _ _ _ _ _, va_recv C0.2.2.2.2.2.1 G.1 (ci := ci) (q0 := i) hc ((wsOf_at hi).trans (by rw [ce_o hs])), fun U hU hW => ⟨rfl, by rw [hU]; exact G.1, va_K.moved hW.alike C0.2.2.2.2.2.1, C0.2.2.2.2.2.2.2.1.warm hW⟩⟩
theorem g_preS (C0 : Cx ad dc D own cc nL p s m args meth c) (G : GW sh ks ad dc D A s σ H locs) : PreS s H (gPc sh ks ad dc D σ As) As :=
  ⟨gPc_blind _ _ _ _ _ _ _, fun U hU hW => ⟨rfl, by rw [hU]; exact G.1, va_K.moved hW.alike C0.2.2.2.2.2.1, C0.2.2.2.2.2.2.2.1.warm hW⟩⟩
theorem g_callVi (C0 : Cx ad dc D own cc nL p s m args meth c) (G : GW sh ks ad dc D A s σ H locs) (hl : lv_has ls nL lv) {C : String} {T : u_T} {n ci : Nat} {fl : List (Nat × Nat)} (hc : vwCl[ci]? = some (C, T, n)) {k : Nat} (hk : k ∈ ks) (hs : sh k = (0, ci, 0, fl)) {r0 : Int32}
    (hM : Met l y (ws_ y bytes maxL ret) rm (gPc sh ks ad dc D σ (.ref (ad k) :: As)) (gQi sh ks ad dc D A σ' r0) 0 0 A) (cw : CallW R s args own C idx y bytes maxL ret (ws_ y bytes maxL ret) rm 0 0 As.length) (hst : st0 = As.reverse ++ .ref (ad k) :: rest) (hroom : (rest.map fun v => v.category).sum ≤ 8) (hdg : decode cc pc = .ok (.invokevirtual idx, 3)) (hf : cells ≤ R.cells ∧ slots ≤ R.slots)
    (kk : ∀ H1 locs1, GW sh ks ad dc D A s σ' H1 locs1 → W p l e R s m args below meth c H1 locs1 cells slots Q (F0 m (pc + 3) ls (.int r0 :: rest))) : W p l e R s m args below meth c H locs cells slots Q (F0 m pc ls st0) := by
  refine va_calli (va_runV ⟨C0.1, C0.2.1, C0.2.2.1, C0.2.2.2.1, C0.2.2.2.2.1⟩ hM cw (g_preV C0 G hc hk hs) rfl rfl hl.1 hst (lv_room hroom) hdg hf) G.2.1 (fun _ _ h => h) (fun _ h => h) (fun r u t H1 locs1 ht hvm hr hB hz hk1 hS => ?_)
  subst hr
  exact kk H1 locs1 ⟨ht ▸ hB, hS, G.2.2⟩
theorem g_callVl (C0 : Cx ad dc D own cc nL p s m args meth c) (G : GW sh ks ad dc D A s σ H locs) (hl : lv_has ls nL lv) {C : String} {T : u_T} {n ci : Nat} {fl : List (Nat × Nat)} (hc : vwCl[ci]? = some (C, T, n)) {k : Nat} (hk : k ∈ ks) (hs : sh k = (0, ci, 0, fl)) {r0 : Int64}
    (hM : Met l y (ws_ y bytes maxL ret) rm (gPc sh ks ad dc D σ (.ref (ad k) :: As)) (gQl sh ks ad dc D A σ' r0) 0 0 A) (cw : CallW R s args own C idx y bytes maxL ret (ws_ y bytes maxL ret) rm 0 0 As.length) (hst : st0 = As.reverse ++ .ref (ad k) :: rest) (hroom : (rest.map fun v => v.category).sum ≤ 8) (hdg : decode cc pc = .ok (.invokevirtual idx, 3)) (hf : cells ≤ R.cells ∧ slots ≤ R.slots)
    (kk : ∀ H1 locs1, GW sh ks ad dc D A s σ' H1 locs1 → W p l e R s m args below meth c H1 locs1 cells slots Q (F0 m (pc + 3) ls (.long r0 :: rest))) : W p l e R s m args below meth c H locs cells slots Q (F0 m pc ls st0) := by
  refine va_calll (va_runV ⟨C0.1, C0.2.1, C0.2.2.1, C0.2.2.2.1, C0.2.2.2.2.1⟩ hM cw (g_preV C0 G hc hk hs) rfl rfl hl.1 hst (lv_room hroom) hdg hf) G.2.1 (fun _ _ h => h) (fun _ h => h) (fun r u t H1 locs1 ht hvm hr hB hz hk1 hS => ?_)
  subst hr
  exact kk H1 locs1 ⟨ht ▸ hB, hS, G.2.2⟩
theorem g_callVv (C0 : Cx ad dc D own cc nL p s m args meth c) (G : GW sh ks ad dc D A s σ H locs) (hl : lv_has ls nL lv) {C : String} {T : u_T} {n ci : Nat} {fl : List (Nat × Nat)} (hc : vwCl[ci]? = some (C, T, n)) {k : Nat} (hk : k ∈ ks) (hs : sh k = (0, ci, 0, fl))
    (hM : Met l y (ws_ y bytes maxL ret) rm (gPc sh ks ad dc D σ (.ref (ad k) :: As)) (gQv sh ks ad dc D A σ') 0 0 A) (cw : CallW R s args own C idx y bytes maxL ret (ws_ y bytes maxL ret) rm 0 0 As.length) (hst : st0 = As.reverse ++ .ref (ad k) :: rest) (hroom : (rest.map fun v => v.category).sum ≤ 8) (hdg : decode cc pc = .ok (.invokevirtual idx, 3)) (hf : cells ≤ R.cells ∧ slots ≤ R.slots)
    (kk : ∀ H1 locs1, GW sh ks ad dc D A s σ' H1 locs1 → W p l e R s m args below meth c H1 locs1 cells slots Q (F0 m (pc + 3) ls rest)) : W p l e R s m args below meth c H locs cells slots Q (F0 m pc ls st0) := by
  refine va_callv (va_runV ⟨C0.1, C0.2.1, C0.2.2.1, C0.2.2.2.1, C0.2.2.2.2.1⟩ hM cw (g_preV C0 G hc hk hs) rfl rfl hl.1 hst (lv_room hroom) hdg hf) G.2.1 (fun _ _ h => h) (fun _ h => h) (fun u t H1 locs1 ht hvm hr hB hz hk1 hS => ?_)
  exact kk H1 locs1 ⟨ht ▸ hB, hS, G.2.2⟩
theorem g_callSi (C0 : Cx ad dc D own cc nL p s m args meth c) (G : GW sh ks ad dc D A s σ H locs) (hl : lv_has ls nL lv) {r0 : Int32}
    (hM : Met l y (ws_ y bytes maxL ret) rm (gPc sh ks ad dc D σ As) (gQi sh ks ad dc D A σ' r0) 0 0 A) (cw : CallB R s args own idx y bytes maxL ret (ws_ y bytes maxL ret) rm 0 0 As.length ∧ (Cond.static y).before args s = true) (hst : st0 = As.reverse ++ rest) (hroom : (rest.map fun v => v.category).sum ≤ 8) (hdg : decode cc pc = .ok (.invokestatic idx, 3)) (hf : cells ≤ R.cells ∧ slots ≤ R.slots)
    (kk : ∀ H1 locs1, GW sh ks ad dc D A s σ' H1 locs1 → W p l e R s m args below meth c H1 locs1 cells slots Q (F0 m (pc + 3) ls (.int r0 :: rest))) : W p l e R s m args below meth c H locs cells slots Q (F0 m pc ls st0) := by
  refine va_calli (va_runS ⟨C0.1, C0.2.1, C0.2.2.1, C0.2.2.2.1, C0.2.2.2.2.1⟩ hM cw (g_preS C0 G) rfl rfl hl.1 hst (lv_room hroom) hdg hf) G.2.1 (fun _ _ h => h) (fun _ h => h) (fun r u t H1 locs1 ht hvm hr hB hz hk1 hS => ?_)
  subst hr
  exact kk H1 locs1 ⟨ht ▸ hB, hS, G.2.2⟩
theorem g_callSl (C0 : Cx ad dc D own cc nL p s m args meth c) (G : GW sh ks ad dc D A s σ H locs) (hl : lv_has ls nL lv) {r0 : Int64}
    (hM : Met l y (ws_ y bytes maxL ret) rm (gPc sh ks ad dc D σ As) (gQl sh ks ad dc D A σ' r0) 0 0 A) (cw : CallB R s args own idx y bytes maxL ret (ws_ y bytes maxL ret) rm 0 0 As.length ∧ (Cond.static y).before args s = true) (hst : st0 = As.reverse ++ rest) (hroom : (rest.map fun v => v.category).sum ≤ 8) (hdg : decode cc pc = .ok (.invokestatic idx, 3)) (hf : cells ≤ R.cells ∧ slots ≤ R.slots)
    (kk : ∀ H1 locs1, GW sh ks ad dc D A s σ' H1 locs1 → W p l e R s m args below meth c H1 locs1 cells slots Q (F0 m (pc + 3) ls (.long r0 :: rest))) : W p l e R s m args below meth c H locs cells slots Q (F0 m pc ls st0) := by
  refine va_calll (va_runS ⟨C0.1, C0.2.1, C0.2.2.1, C0.2.2.2.1, C0.2.2.2.2.1⟩ hM cw (g_preS C0 G) rfl rfl hl.1 hst (lv_room hroom) hdg hf) G.2.1 (fun _ _ h => h) (fun _ h => h) (fun r u t H1 locs1 ht hvm hr hB hz hk1 hS => ?_)
  subst hr
  exact kk H1 locs1 ⟨ht ▸ hB, hS, G.2.2⟩
/-- how a method's walk ends: at any of its returns -/
def KrI (p : Program) (l : Launch) (e : Env) (R : Room) (s : State) (m : MethodId) (args : Array Value) (below : List Frame) (meth : Method) (c : Code) (cc : ByteArray) (Q : State → Prop) (Gf : Heap → List Loc → Prop) (r : Int32) : Prop := ∀ (pc : Nat) (H : Heap) (locs : List Loc) (ls : Array Slot), decode cc pc = .ok (.ireturn, 1) → Gf H locs → W p l e R s m args below meth c H locs 0 0 Q (F0 m pc ls [.int r])
def KrZ (p : Program) (l : Launch) (e : Env) (R : Room) (s : State) (m : MethodId) (args : Array Value) (below : List Frame) (meth : Method) (c : Code) (cc : ByteArray) (Q : State → Prop) (Gf : Heap → List Loc → Prop) (r : Int32) : Prop := ∀ (pc : Nat) (H : Heap) (locs : List Loc) (ls : Array Slot), decode cc pc = .ok (.ireturn, 1) → narrow .boolean (.int r) = .int r → Gf H locs → W p l e R s m args below meth c H locs 0 0 Q (F0 m pc ls [.int r])
def KrJ (p : Program) (l : Launch) (e : Env) (R : Room) (s : State) (m : MethodId) (args : Array Value) (below : List Frame) (meth : Method) (c : Code) (cc : ByteArray) (Q : State → Prop) (Gf : Heap → List Loc → Prop) (r : Int64) : Prop := ∀ (pc : Nat) (H : Heap) (locs : List Loc) (ls : Array Slot), decode cc pc = .ok (.lreturn, 1) → Gf H locs → W p l e R s m args below meth c H locs 0 0 Q (F0 m pc ls [.long r])
def KrV (p : Program) (l : Launch) (e : Env) (R : Room) (s : State) (m : MethodId) (args : Array Value) (below : List Frame) (meth : Method) (c : Code) (cc : ByteArray) (Q : State → Prop) (Gf : Heap → List Loc → Prop) : Prop := ∀ (pc : Nat) (H : Heap) (locs : List Loc) (ls : Array Slot), decode cc pc = .ok (.return_, 1) → Gf H locs → W p l e R s m args below meth c H locs 0 0 Q (F0 m pc ls [])
theorem g_metI {av : List Value} {r0 : Int32} (hy : plainName y.cls = true) (hyc : y.cls = own) (hi : ∀ i j, ad i = ad j → i = j) (hn : ks.Nodup) (hA : ∀ k, k ∈ ks → A (ad k)) (hlen : (lg_sl av).length ≤ nL)
    (body : ∀ (p : Program) (e : Env) (s : State) (m : MethodId) (below : List Frame) (meth : Method) (c : Code) (Q : State → Prop), Cx ad dc D own cc nL p s m av.toArray meth c → KrI p l e rm s m av.toArray below meth c cc Q (GW sh ks ad dc D A s σ') r0 → ∀ ls, lv_has ls nL (lv_args 0 av) → GW sh ks ad dc D A s σ s.heap [] → W p l e rm s m av.toArray below meth c s.heap [] 0 0 Q (F0 m 0 ls [])) :
    Met l y (ws_ y cc nL (some .int)) rm (gPc sh ks ad dc D σ av) (gQi sh ks ad dc D A σ' r0) 0 0 A := by
  refine Met.ofW (cc := cc) (maxL := nL) (ret := some .int) hy rfl ?_
  intro p e s m args below meth c s₁ B hml hv
  obtain ⟨rfl, hP, hK, hN⟩ := hv
  have hts := atoms_spec (ws := ws_ y cc nL (some .int)) B.pre
  rw [lg_entry_eq]
  exact body p e s m below meth c _ ⟨B.exec, B.bytes, hml, hyc ▸ findClass_of_methodNamed B.named, fun w h => hts w (List.mem_cons_of_mem _ h), hK, hi, hN, B.notSynchronized⟩ (fun pc H locs ls hd G => W.iret B.exec B.bytes B.returns (fun t ht hW => ⟨⟨r0, (), rfl, rfl, by show va_P _ _ _ t.heap; rw [ht]; exact G.1⟩, G.2.1.F ht⟩) G.2.1.2.2 hd) _ (lv_entry av hlen) ⟨hP, va_S.rf, hn, hA⟩
theorem g_metZ {av : List Value} {r0 : Int32} (hy : plainName y.cls = true) (hyc : y.cls = own) (hi : ∀ i j, ad i = ad j → i = j) (hn : ks.Nodup) (hA : ∀ k, k ∈ ks → A (ad k)) (hlen : (lg_sl av).length ≤ nL)
    (body : ∀ (p : Program) (e : Env) (s : State) (m : MethodId) (below : List Frame) (meth : Method) (c : Code) (Q : State → Prop), Cx ad dc D own cc nL p s m av.toArray meth c → KrZ p l e rm s m av.toArray below meth c cc Q (GW sh ks ad dc D A s σ') r0 → ∀ ls, lv_has ls nL (lv_args 0 av) → GW sh ks ad dc D A s σ s.heap [] → W p l e rm s m av.toArray below meth c s.heap [] 0 0 Q (F0 m 0 ls [])) :
    Met l y (ws_ y cc nL (some .boolean)) rm (gPc sh ks ad dc D σ av) (gQi sh ks ad dc D A σ' r0) 0 0 A := by
  refine Met.ofW (cc := cc) (maxL := nL) (ret := some .boolean) hy rfl ?_
  intro p e s m args below meth c s₁ B hml hv
  obtain ⟨rfl, hP, hK, hN⟩ := hv
  have hts := atoms_spec (ws := ws_ y cc nL (some .boolean)) B.pre
  rw [lg_entry_eq]
  exact body p e s m below meth c _ ⟨B.exec, B.bytes, hml, hyc ▸ findClass_of_methodNamed B.named, fun w h => hts w (List.mem_cons_of_mem _ h), hK, hi, hN, B.notSynchronized⟩ (fun pc H locs ls hd hn G => W.zret B.exec B.bytes B.returns hn (fun t ht hW => ⟨⟨r0, (), rfl, rfl, by show va_P _ _ _ t.heap; rw [ht]; exact G.1⟩, G.2.1.F ht⟩) G.2.1.2.2 hd) _ (lv_entry av hlen) ⟨hP, va_S.rf, hn, hA⟩
theorem g_metJ {av : List Value} {r0 : Int64} (hy : plainName y.cls = true) (hyc : y.cls = own) (hi : ∀ i j, ad i = ad j → i = j) (hn : ks.Nodup) (hA : ∀ k, k ∈ ks → A (ad k)) (hlen : (lg_sl av).length ≤ nL)
    (body : ∀ (p : Program) (e : Env) (s : State) (m : MethodId) (below : List Frame) (meth : Method) (c : Code) (Q : State → Prop), Cx ad dc D own cc nL p s m av.toArray meth c → KrJ p l e rm s m av.toArray below meth c cc Q (GW sh ks ad dc D A s σ') r0 → ∀ ls, lv_has ls nL (lv_args 0 av) → GW sh ks ad dc D A s σ s.heap [] → W p l e rm s m av.toArray below meth c s.heap [] 0 0 Q (F0 m 0 ls [])) :
    Met l y (ws_ y cc nL (some .long)) rm (gPc sh ks ad dc D σ av) (gQl sh ks ad dc D A σ' r0) 0 0 A := by
  refine Met.ofW (cc := cc) (maxL := nL) (ret := some .long) hy rfl ?_
  intro p e s m args below meth c s₁ B hml hv
  obtain ⟨rfl, hP, hK, hN⟩ := hv
  have hts := atoms_spec (ws := ws_ y cc nL (some .long)) B.pre
  rw [lg_entry_eq]
  exact body p e s m below meth c _ ⟨B.exec, B.bytes, hml, hyc ▸ findClass_of_methodNamed B.named, fun w h => hts w (List.mem_cons_of_mem _ h), hK, hi, hN, B.notSynchronized⟩ (fun pc H locs ls hd G => W.lret B.exec B.bytes B.returns (fun t ht hW => ⟨⟨r0, (), rfl, rfl, by show va_P _ _ _ t.heap; rw [ht]; exact G.1⟩, G.2.1.F ht⟩) G.2.1.2.2 hd) _ (lv_entry av hlen) ⟨hP, va_S.rf, hn, hA⟩
theorem g_metV {av : List Value} (hy : plainName y.cls = true) (hyc : y.cls = own) (hi : ∀ i j, ad i = ad j → i = j) (hn : ks.Nodup) (hA : ∀ k, k ∈ ks → A (ad k)) (hlen : (lg_sl av).length ≤ nL)
    (body : ∀ (p : Program) (e : Env) (s : State) (m : MethodId) (below : List Frame) (meth : Method) (c : Code) (Q : State → Prop), Cx ad dc D own cc nL p s m av.toArray meth c → KrV p l e rm s m av.toArray below meth c cc Q (GW sh ks ad dc D A s σ') → ∀ ls, lv_has ls nL (lv_args 0 av) → GW sh ks ad dc D A s σ s.heap [] → W p l e rm s m av.toArray below meth c s.heap [] 0 0 Q (F0 m 0 ls [])) :
    Met l y (ws_ y cc nL none) rm (gPc sh ks ad dc D σ av) (gQv sh ks ad dc D A σ') 0 0 A := by
  refine Met.ofW (cc := cc) (maxL := nL) (ret := none) hy rfl ?_
  intro p e s m args below meth c s₁ B hml hv
  obtain ⟨rfl, hP, hK, hN⟩ := hv
  have hts := atoms_spec (ws := ws_ y cc nL none) B.pre
  rw [lg_entry_eq]
  exact body p e s m below meth c _ ⟨B.exec, B.bytes, hml, hyc ▸ findClass_of_methodNamed B.named, fun w h => hts w (List.mem_cons_of_mem _ h), hK, hi, hN, B.notSynchronized⟩ (fun pc H locs ls hd G => W.vret B.exec B.bytes B.returns (fun t ht hW => ⟨⟨(), rfl, trivial, by show va_P _ _ _ t.heap; rw [ht]; exact G.1⟩, G.2.1.F ht⟩) G.2.1.2.2 hd) _ (lv_entry av hlen) ⟨hP, va_S.rf, hn, hA⟩
end CALLS
