/-! rows over cells that aren't known beforehand: a reference read from the store, its shape, lists, casts -/
set_option maxRecDepth 100000
/-- a reference that must not be null -/
def ckN {β : Type} (r : Option Nat) (f : Nat → Option β) : Option β := match r with
  | none => none
  | some a => f a
theorem ckN_e {β : Type} {r : Option Nat} {f : Nat → Option β} {o : β} (h : ckN r f = some o) : ∃ a, r = some a ∧ f a = some o := by
  cases r with
  | none => cases h
  | some a => exact ⟨a, rfl, h⟩
/-- a reference that may be null -/
def caN {β : Type} (r : Option Nat) (x : Option β) (f : Nat → Option β) : Option β := match r with
  | none => x
  | some a => f a
theorem caN_e {β : Type} {r : Option Nat} {x : Option β} {f : Nat → Option β} {o : β} (h : caN r x f = some o) : (r = none ∧ x = some o) ∨ ∃ a, r = some a ∧ f a = some o := by
  cases r with
  | none => exact Or.inl ⟨rfl, h⟩
  | some a => exact Or.inr ⟨a, rfl, h⟩
/-- a cell's shape -/
def ckS {β : Type} (q x : Sh) (b : Option β) : Option β := if q = x then b else none
theorem ckS_e {β : Type} {q x : Sh} {b : Option β} {o : β} (h : ckS q x b = some o) : q = x ∧ b = some o := by
  unfold ckS at h
  split at h
  · exact ⟨by assumption, h⟩
  · cases h
/-- an array of references to objects: its length -/
def ckO {β : Type} (q : Sh) (f : Nat → Option β) : Option β := if q = (2, 3, q.2.2.1, []) then f q.2.2.1 else none
theorem ckO_e {β : Type} {q : Sh} {f : Nat → Option β} {o : β} (h : ckO q f = some o) : ∃ n, q = (2, 3, n, []) ∧ f n = some o := by
  unfold ckO at h
  split at h
  · exact ⟨q.2.2.1, by assumption, h⟩
  · cases h
/-- a cell's class is one of some -/
def ckT {β : Type} (q : Sh) (cs : List Nat) (b : Option β) : Option β := if q.1 = 0 ∧ q.2.2.1 = 0 ∧ q.2.1 ∈ cs then b else none
theorem ckT_e {β : Type} {q : Sh} {cs : List Nat} {b : Option β} {o : β} (h : ckT q cs b = some o) : (∃ ci fl, ci ∈ cs ∧ q = (0, ci, 0, fl)) ∧ b = some o := by
  unfold ckT at h
  split at h
  · rename_i hq
    obtain ⟨q1, q2, q3, q4⟩ := q
    obtain ⟨h1, h2, h3⟩ := hq
    have h1 : q1 = 0 := h1
    have h2 : q3 = 0 := h2
    subst h1 h2
    exact ⟨⟨q2, q4, h3, rfl⟩, h⟩
  · cases h
abbrev gQr (sh : Nat → Sh) (ks : List Nat) (ad : Nat → Nat) (dc : Nat → ClassId) (D : va_G) (A : Nat → Prop) (σ : St) (r0 : Nat) : Array Value → State → Outcome → State → Prop := va_Qr (fun (_ : Unit) => True) (fun _ a t => a = ad r0 ∧ va_P D vwCl (wsOf ks sh ad dc σ) t.heap) A
section DYN
variable {p : Program} {l : Launch} {e : Env} {R : Room} {s : State} {m : MethodId} {args : Array Value} {below : List Frame} {meth : Method} {c : Code} {H : Heap} {locs : List Loc} {cells slots : Nat} {Q : State → Prop}
variable {cc : ByteArray} {nL : Nat} {sh : Nat → Sh} {ks : List Nat} {ad : Nat → Nat} {dc : Nat → ClassId} {D : va_G} {A : Nat → Prop} {own : String} {σ σ' : St} {pc : Nat} {ls : Array Slot} {rest st0 : List Value}
variable {y : MethodName} {bytes : ByteArray} {maxL : Nat} {ret : Option FieldType} {rm : Room} {idx : Nat} {As : List Value} {lv : List (Nat × Value)}
/-- a field under the name by which javac spells it -/
theorem g_getF (C0 : Cx ad dc D own cc nL p s m args meth c) (G : GW sh ks ad dc D A s σ H locs) {C ref : String} {T : u_T} {n ci idx : Nat} {fl : List (Nat × Nat)} (hin : ∀ w ∈ u_ws C T n, w ∈ lw_all) (hc : vwCl[ci]? = some (C, T, n)) {k : Nat} (hk : k ∈ ks) (hs : sh k = (0, ci, 0, fl)) (j : Nat) (hj : j < n) {f : Nat × Nat} (hf : fl[j]? = some f) (hq : Cond.fieldLink own idx ref (T j).2.1 (T j).2.2.1 ∈ lw_all) (hsf : Cond.sameField ref (T j).1 (T j).2.1 (T j).2.2.1 ∈ lw_all) (hdg : decode cc pc = .ok (.getfield idx, 3))
    {v : Value} (hv : fvOf ad σ k j f = v) (kk : W p l e R s m args below meth c H locs cells slots Q (F0 m (pc + 3) ls (v :: rest))) : W p l e R s m args below meth c H locs cells slots Q (F0 m pc ls (.ref (ad k) :: rest)) := by
  subst hv
  obtain ⟨i, hi⟩ := List.getElem?_of_mem hk
  exact va_get (D := D) (ci := ci) (C := C) (T := T) (N := n) C0.1 C0.2.1 C0.2.2.2.2.1 hin C0.2.2.2.1 C0.2.2.2.2.2.1 G.1 i ((wsOf_at hi).trans (by rw [ce_o hs])) hc j hj (C0.2.2.2.2.1 _ hq) (fun x h9 => u_same (C0.2.2.2.2.1 _ hsf) x h9) (fl_get hf) hdg kk
theorem fv_s {k j a x : Nat} (e_h : gR σ k j = some a) : fvOf ad σ k j (3, x) = .ref (ad a) := by show va_rf ((gR σ k j).map ad) = _; rw [e_h]; rfl
theorem fv_n {k j x : Nat} (e_h : gR σ k j = none) : fvOf ad σ k j (3, x) = .null := by show va_rf ((gR σ k j).map ad) = _; rw [e_h]; rfl
theorem g_aald (C0 : Cx ad dc D own cc nL p s m args meth c) (G : GW sh ks ad dc D A s σ H locs) {k n : Nat} (hk : k ∈ ks) (hs : sh k = (2, 3, n, [])) {i : Int32} (hi : vp_in i n) {a : Nat} (e_h : gR σ k i.toNatClampNeg = some a) (hdg : decode cc pc = .ok (.aaload, 1))
    (kk : W p l e R s m args below meth c H locs cells slots Q (F0 m (pc + 1) ls (.ref (ad a) :: rest))) : W p l e R s m args below meth c H locs cells slots Q (F0 m pc ls (.int i :: .ref (ad k) :: rest)) := by
  obtain ⟨i0, h0⟩ := List.getElem?_of_mem hk
  refine va_aldq (C := "java/lang/Object") C0.1 C0.2.1 C0.2.2.2.2.2.1 G.1 i0 3 ((wsOf_at h0).trans (by rw [ce_r hs])) rfl hi hdg ?_
  have h : va_rf ((gR σ k i.toNatClampNeg).map ad) = .ref (ad a) := by rw [e_h]; rfl
  rw [h]
  exact kk
/-- a reference, or null, into a field that isn't final -/
theorem g_putRN (C0 : Cx ad dc D own cc nL p s m args meth c) (G : GW sh ks ad dc D A s σ H locs) {C : String} {T : u_T} {n ci idx : Nat} {fl : List (Nat × Nat)} (hin : ∀ w ∈ u_ws C T n, w ∈ lw_all) {ty0 : Nat → FieldType} (hty : ∀ k, k < n → parseFieldDescriptor (T k).2.2.1 = some (ty0 k)) (hnm : ∀ a, a < n → ∀ b, b < n → a ≠ b → (T a).2.1 ≠ (T b).2.1) (hc : vwCl[ci]? = some (C, T, n)) {k : Nat} (hk : k ∈ ks) (hs : sh k = (0, ci, 0, fl)) (j : Nat) (hj : j < n) {x0 : Nat} (hf : fl[j]? = some (3, x0)) {host : String} (hq : va_Nw (.fieldLinkNest own idx (T j).1 (T j).2.1 (T j).2.2.1 host) s) (hfin : (T j).2.2.2 = false) (hdg : decode cc pc = .ok (.putfield idx, 3))
    {x : Option Nat} {v : Value} (hv : va_rf (x.map ad) = v) (hn : narrow (ty0 j) v = v ∧ fits (ty0 j) v = true)
    (kk : ∀ σ' H1 locs1, σ' = pR σ k j x → GW sh ks ad dc D A s σ' H1 locs1 → W p l e R s m args below meth c H1 locs1 cells slots Q (F0 m (pc + 3) ls rest)) : W p l e R s m args below meth c H locs cells slots Q (F0 m pc ls (v :: .ref (ad k) :: rest)) := by
  refine g_putN C0 G hin hty hnm hc hk hs j hj hf hq hfin hdg hn.1 hn.2 (pR σ k j x) ?_ ?_ ?_ (fun H1 locs1 G1 => kk _ H1 locs1 rfl G1)
  · show va_rf ((gR (pR σ k j x) k j).map ad) = _
    rw [gR_pR, if_pos ⟨rfl, rfl⟩]
    exact hv
  · intro i g hi
    unfold fvOf
    rw [gR_pR, if_neg (fun q => hi q.2)]
    rfl
  · intro c hc
    exact ce_off (fun _ => rfl) (fun _ => rfl) (fun _ => rfl) (fun k' => by rw [gR_pR, if_neg (fun q => hc q.1)])
theorem g_callVr (C0 : Cx ad dc D own cc nL p s m args meth c) (G : GW sh ks ad dc D A s σ H locs) (hl : lv_has ls nL lv) {C : String} {T : u_T} {n ci : Nat} {fl : List (Nat × Nat)} (hc : vwCl[ci]? = some (C, T, n)) {k : Nat} (hk : k ∈ ks) (hs : sh k = (0, ci, 0, fl)) {r0 : Nat}
    (hM : Met l y (ws_ y bytes maxL ret) rm (gPc sh ks ad dc D σ (.ref (ad k) :: As)) (gQr sh ks ad dc D A σ' r0) 0 0 A) (cw : CallW R s args own C idx y bytes maxL ret (ws_ y bytes maxL ret) rm 0 0 As.length) (hst : st0 = As.reverse ++ .ref (ad k) :: rest) (hroom : (rest.map fun v => v.category).sum ≤ 8) (hdg : decode cc pc = .ok (.invokevirtual idx, 3)) (hf : cells ≤ R.cells ∧ slots ≤ R.slots)
    (kk : ∀ H1 locs1, GW sh ks ad dc D A s σ' H1 locs1 → W p l e R s m args below meth c H1 locs1 cells slots Q (F0 m (pc + 3) ls (.ref (ad r0) :: rest))) : W p l e R s m args below meth c H locs cells slots Q (F0 m pc ls st0) := by
  refine va_callr (va_runV ⟨C0.1, C0.2.1, C0.2.2.1, C0.2.2.2.1, C0.2.2.2.2.1⟩ hM cw (g_preV C0 G hc hk hs) rfl rfl hl.1 hst (lv_room hroom) hdg hf) G.2.1 (fun _ _ h => h) (fun _ h => h) (fun u ra t H1 locs1 ht hvm hr hB hz hk1 hS => ?_)
  obtain ⟨rfl, hB⟩ := hB
  exact kk H1 locs1 ⟨ht ▸ hB, hS, G.2.2⟩
/-- a method of a superclass, on a receiver of any class: x as it is linked, y as it is selected -/
theorem g_callUi (C0 : Cx ad dc D own cc nL p s m args meth c) (G : GW sh ks ad dc D A s σ H locs) (hl : lv_has ls nL lv) {x : MethodName} {owner : String} {C : String} {T : u_T} {n ci : Nat} {fl : List (Nat × Nat)} (hc : vwCl[ci]? = some (C, T, n)) {k : Nat} (hk : k ∈ ks) (hs : sh k = (0, ci, 0, fl)) {r0 : Int32}
    (hM : Met l y (ws_ y bytes maxL ret) rm (gPc sh ks ad dc D σ (.ref (ad k) :: As)) (gQi sh ks ad dc D A σ' r0) 0 0 A) (cw : va_CU R s args own C owner idx x y bytes maxL ret (ws_ y bytes maxL ret) rm 0 0 As.length) (hst : st0 = As.reverse ++ .ref (ad k) :: rest) (hroom : (rest.map fun v => v.category).sum ≤ 8) (hdg : decode cc pc = .ok (.invokevirtual idx, 3)) (hf : cells ≤ R.cells ∧ slots ≤ R.slots)
    (kk : ∀ H1 locs1, GW sh ks ad dc D A s σ' H1 locs1 → W p l e R s m args below meth c H1 locs1 cells slots Q (F0 m (pc + 3) ls (.int r0 :: rest))) : W p l e R s m args below meth c H locs cells slots Q (F0 m pc ls st0) := by
  refine va_calli (va_runU ⟨C0.1, C0.2.1, C0.2.2.1, C0.2.2.2.1, C0.2.2.2.2.1⟩ hM cw (g_preV C0 G hc hk hs) rfl rfl hl.1 hst (lv_room hroom) hdg hf) G.2.1 (fun _ _ h => h) (fun _ h => h) (fun r u t H1 locs1 ht hvm hr hB hz hk1 hS => ?_)
  subst hr
  exact kk H1 locs1 ⟨ht ▸ hB, hS, G.2.2⟩
/-- super.y(..) -/
theorem g_callUSi (C0 : Cx ad dc D own cc nL p s m args meth c) (G : GW sh ks ad dc D A s σ H locs) (hl : lv_has ls nL lv) {C : String} {T : u_T} {n ci : Nat} {fl : List (Nat × Nat)} (hc : vwCl[ci]? = some (C, T, n)) {k : Nat} (hk : k ∈ ks) (hs : sh k = (0, ci, 0, fl)) {r0 : Int32}
    (hM : Met l y (ws_ y bytes maxL ret) rm (gPc sh ks ad dc D σ (.ref (ad k) :: As)) (gQi sh ks ad dc D A σ' r0) 0 0 A) (cw : va_CS R s args own idx y bytes maxL ret (ws_ y bytes maxL ret) rm 0 0 As.length) (hst : st0 = As.reverse ++ .ref (ad k) :: rest) (hroom : (rest.map fun v => v.category).sum ≤ 8) (hdg : decode cc pc = .ok (.invokespecial idx, 3)) (hf : cells ≤ R.cells ∧ slots ≤ R.slots)
    (kk : ∀ H1 locs1, GW sh ks ad dc D A s σ' H1 locs1 → W p l e R s m args below meth c H1 locs1 cells slots Q (F0 m (pc + 3) ls (.int r0 :: rest))) : W p l e R s m args below meth c H locs cells slots Q (F0 m pc ls st0) := by
  refine va_calli (va_runSU ((C0.2.2.2.2.2.1.1 ci _ hc).2) ⟨C0.1, C0.2.1, C0.2.2.1, C0.2.2.2.1, C0.2.2.2.2.1⟩ hM cw (g_preV C0 G hc hk hs) rfl rfl hl.1 hst (lv_room hroom) hdg hf) G.2.1 (fun _ _ h => h) (fun _ h => h) (fun r u t H1 locs1 ht hvm hr hB hz hk1 hS => ?_)
  subst hr
  exact kk H1 locs1 ⟨ht ▸ hB, hS, G.2.2⟩
theorem g_recv (C0 : Cx ad dc D own cc nL p s m args meth c) (G : GW sh ks ad dc D A s σ H locs) {C : String} {T : u_T} {n ci : Nat} {fl : List (Nat × Nat)} (hc : vwCl[ci]? = some (C, T, n)) {k : Nat} (hk : k ∈ ks) (hs : sh k = (0, ci, 0, fl)) : ∃ cell : Cell, H[ad k]? = some cell ∧ cell.vm.isStatics = false ∧ s.vm.findClass C = some cell.cls := by
  obtain ⟨i, hi⟩ := List.getElem?_of_mem hk
  exact va_recv C0.2.2.2.2.2.1 G.1 (ci := ci) (q0 := i) hc ((wsOf_at hi).trans (by rw [ce_o hs]))
/-- a cast to the very class -/
theorem g_castS (C0 : Cx ad dc D own cc nL p s m args meth c) (G : GW sh ks ad dc D A s σ H locs) {C : String} {T : u_T} {n ci : Nat} {fl : List (Nat × Nat)} (hc : vwCl[ci]? = some (C, T, n)) {k : Nat} (hk : k ∈ ks) (hs : sh k = (0, ci, 0, fl)) (hq : Cond.classLink own idx C ∈ lw_all) (hdg : decode cc pc = .ok (.checkcast idx, 3))
    (kk : W p l e R s m args below meth c H locs cells slots Q (F0 m (pc + 3) ls (.ref (ad k) :: rest))) : W p l e R s m args below meth c H locs cells slots Q (F0 m pc ls (.ref (ad k) :: rest)) :=
  va_castS C0.1 C0.2.1 C0.2.2.2.1 (C0.2.2.2.2.1 _ hq) ((C0.2.2.2.2.2.1.1 ci _ hc).2) (g_recv C0 G hc hk hs) hdg kk
/-- a cast to a superclass -/
theorem g_castY (C0 : Cx ad dc D own cc nL p s m args meth c) (G : GW sh ks ad dc D A s σ H locs) {C nm : String} {T : u_T} {n ci : Nat} {fl : List (Nat × Nat)} (hc : vwCl[ci]? = some (C, T, n)) {k : Nat} (hk : k ∈ ks) (hs : sh k = (0, ci, 0, fl)) (hq : Cond.classLink own idx nm ∈ lw_all) (hcs : Cond.castable C nm ∈ lw_tbl) (hdg : decode cc pc = .ok (.checkcast idx, 3))
    (kk : W p l e R s m args below meth c H locs cells slots Q (F0 m (pc + 3) ls (.ref (ad k) :: rest))) : W p l e R s m args below meth c H locs cells slots Q (F0 m pc ls (.ref (ad k) :: rest)) :=
  va_castY C0.1 C0.2.1 C0.2.2.2.1 (C0.2.2.2.2.1 _ hq) (xn_of C0.2.2.2.2.2.2.2.1 hcs rfl) (g_recv C0 G hc hk hs) hdg kk
def KrR (p : Program) (l : Launch) (e : Env) (R : Room) (s : State) (m : MethodId) (args : Array Value) (below : List Frame) (meth : Method) (c : Code) (cc : ByteArray) (Q : State → Prop) (Gf : Heap → List Loc → Prop) (r : Nat) : Prop := ∀ (pc : Nat) (H : Heap) (locs : List Loc) (ls : Array Slot), decode cc pc = .ok (.areturn, 1) → Gf H locs → W p l e R s m args below meth c H locs 0 0 Q (F0 m pc ls [.ref r])
theorem g_metR {av : List Value} {r0 : Nat} {rt : FieldType} (hrt : (∃ n, rt = .object n) ∨ ∃ t, rt = .array t) (hy : plainName y.cls = true) (hyc : y.cls = own) (hi : ∀ i j, ad i = ad j → i = j) (hn : ks.Nodup) (hA : ∀ k, k ∈ ks → A (ad k)) (hlen : (lg_sl av).length ≤ nL)
    (body : ∀ (p : Program) (e : Env) (s : State) (m : MethodId) (below : List Frame) (meth : Method) (c : Code) (Q : State → Prop), Cx ad dc D own cc nL p s m av.toArray meth c → KrR p l e rm s m av.toArray below meth c cc Q (GW sh ks ad dc D A s σ') (ad r0) → ∀ ls, lv_has ls nL (lv_args 0 av) → GW sh ks ad dc D A s σ s.heap [] → W p l e rm s m av.toArray below meth c s.heap [] 0 0 Q (F0 m 0 ls [])) :
    Met l y (ws_ y cc nL (some rt)) rm (gPc sh ks ad dc D σ av) (gQr sh ks ad dc D A σ' r0) 0 0 A := by
  refine Met.ofW (cc := cc) (maxL := nL) (ret := some rt) hy rfl ?_
  intro p e s m args below meth c s₁ B hml hv
  obtain ⟨rfl, hP, hK, hN⟩ := hv
  have hts := atoms_spec (ws := ws_ y cc nL (some rt)) B.pre
  rw [lg_entry_eq]
  exact body p e s m below meth c _ ⟨B.exec, B.bytes, hml, hyc ▸ findClass_of_methodNamed B.named, fun w h => hts w (List.mem_cons_of_mem _ h), hK, hi, hN, B.notSynchronized⟩ (fun pc H locs ls hd G => W.aret B.exec B.bytes B.returns hrt (Or.inr ⟨_, rfl⟩) (fun t ht hW => ⟨⟨(), ad r0, rfl, trivial, rfl, by rw [ht]; exact G.1⟩, G.2.1.F ht⟩) G.2.1.2.2 hd) _ (lv_entry av hlen) ⟨hP, va_S.rf, hn, hA⟩
end DYN
