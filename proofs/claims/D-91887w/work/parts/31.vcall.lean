/-! virtual calls of several classes' methods; rooms of the evaluators; copies -/
set_option maxRecDepth 100000
theorem lw_SU {own : String} {idx : Nat} {y : MethodName} {b : ByteArray} {L : Nat} {r : Option FieldType} (h1 : Cond.methodLink own idx y ∈ lw_all) (h2 : Cond.sameMethod y.cls y.cls y.name y.desc ∈ lw_all) (h3 : Cond.superclass own y.cls ∈ lw_all) (h4 : Cond.instanceMethod y ∈ lw_all) (h5 : Cond.initialized y.cls ∈ lw_all) (h6 : Cond.code y b L r ∈ lw_all) : GoodIn lw_all (va_wsSU own idx y (ws_ y b L r)) := by
  refine lw_app ?_ (lw_meth h6)
  intro w hw
  simp only [List.mem_cons, List.not_mem_nil, or_false] at hw
  rcases hw with e | e | e | e | e
  · rw [e]; exact h1
  · rw [e]; exact h2
  · rw [e]; exact h3
  · rw [e]; exact h4
  · rw [e]; exact h5
def RmE (n : Nat) : Room := { frames := 2 * n + 3, cells := 0, slots := 0, locals := 60 * n + 100 }
def RmE1 (n : Nat) : Room := { frames := 2 * n + 4, cells := 0, slots := 0, locals := 60 * n + 130 }
def RmT (n : Nat) : Room := { frames := 2 * n + 270, cells := 0, slots := 0, locals := 60 * n + 8000 }
def RmHo : Room := { frames := 352, cells := 0, slots := 0, locals := 10500 }
def RmG (n : Nat) : Room := { frames := n + 6, cells := 0, slots := 0, locals := 40 * n + 200 }
def RmDo : Room := { frames := 270, cells := 0, slots := 0, locals := 8200 }
def ySumOf : MethodName := ⟨"HotIron$Sum", "of", "(LHotIron$Work;)I"⟩
def yTestIs : MethodName := ⟨"HotIron$Test", "is", "(LHotIron$Work;)Z"⟩
def yStepHolds : MethodName := ⟨"HotIron$Step", "holds", "(LHotIron$Work;)Z"⟩
def yStepDoes : MethodName := ⟨"HotIron$Step", "does", "(LHotIron$Work;I)I"⟩
/-- a virtual call of x on the cell k answers r0 -/
def VCi (l : Launch) (sh : Nat → Sh) (ks : List Nat) (ad : Nat → Nat) (dc : Nat → ClassId) (D : va_G) (A : Nat → Prop) (x : MethodName) (rm : Room) (k : Nat) (As : List Value) (σ σ' : St) (r0 : Int32) : Prop :=
  ∃ (ci : Nat) (C : String) (T : u_T) (n : Nat) (fl : List (Nat × Nat)) (y : MethodName) (bytes : ByteArray) (maxL : Nat) (ret : Option FieldType), vwCl[ci]? = some (C, T, n) ∧ sh k = (0, ci, 0, fl) ∧ k ∈ ks ∧ Met l y (ws_ y bytes maxL ret) rm (gPc sh ks ad dc D σ (.ref (ad k) :: As)) (gQi sh ks ad dc D A σ' r0) 0 0 A ∧ Cond.selects C x y ∈ lw_all ∧ Cond.instanceMethod y ∈ lw_all ∧ Cond.initialized y.cls ∈ lw_all ∧ Cond.code y bytes maxL ret ∈ lw_all ∧ maxL ≤ 10
def pC (σ : St) (a b sp dp n : Nat) : St := (σ.1, σ.2.1, fun c => if c = b then va_cpy (gA σ a) (gA σ b) sp dp n else gA σ c, σ.2.2.2)
theorem gI_pC (σ : St) (a b sp dp n c k : Nat) : gI (pC σ a b sp dp n) c k = gI σ c k := rfl
theorem gL_pC (σ : St) (a b sp dp n c k : Nat) : gL (pC σ a b sp dp n) c k = gL σ c k := rfl
theorem gR_pC (σ : St) (a b sp dp n c k : Nat) : gR (pC σ a b sp dp n) c k = gR σ c k := rfl
theorem gA_pC (σ : St) (a b sp dp n c : Nat) : gA (pC σ a b sp dp n) c = if c = b then va_cpy (gA σ a) (gA σ b) sp dp n else gA σ c := rfl
def ckC {β : Type} (sp dp n : Int32) (n0 n1 : Nat) (x : Option β) : Option β := if ¬ sp < 0 ∧ ¬ dp < 0 ∧ ¬ n < 0 ∧ sp.toNatClampNeg + n.toNatClampNeg ≤ n0 ∧ dp.toNatClampNeg + n.toNatClampNeg ≤ n1 then x else none
theorem ckC_e {β : Type} {sp dp n : Int32} {n0 n1 : Nat} {x : Option β} {o : β} (h : ckC sp dp n n0 n1 x = some o) : (¬ sp < 0 ∧ ¬ dp < 0 ∧ ¬ n < 0 ∧ sp.toNatClampNeg + n.toNatClampNeg ≤ n0 ∧ dp.toNatClampNeg + n.toNatClampNeg ≤ n1) ∧ x = some o := by
  unfold ckC at h
  split at h
  · exact ⟨by assumption, h⟩
  · cases h
section VCALL
variable {p : Program} {l : Launch} {e : Env} {R : Room} {s : State} {m : MethodId} {args : Array Value} {below : List Frame} {meth : Method} {c : Code} {H : Heap} {locs : List Loc} {cells slots : Nat} {Q : State → Prop}
variable {cc : ByteArray} {nL : Nat} {sh : Nat → Sh} {ks : List Nat} {ad : Nat → Nat} {dc : Nat → ClassId} {D : va_G} {A : Nat → Prop} {own : String} {σ σ' : St} {pc : Nat} {ls : Array Slot} {rest st0 : List Value}
variable {idx : Nat} {As : List Value} {lv : List (Nat × Value)} {rm : Room}
theorem g_callVC (nn : Nat) (C0 : Cx ad dc D own cc nL p s m args meth c) (G : GW sh ks ad dc D A s σ H locs) (hl : lv_has ls nL lv) {x : MethodName} {k : Nat} {r0 : Int32} (hV : VCi l sh ks ad dc D A x rm k As σ σ' r0) (hq : Cond.methodLink own idx x ∈ lw_all) (hsm : Cond.sameMethod x.cls x.cls x.name x.desc ∈ lw_all) (hdecl : va_Decl s ⟨x.cls, x.name, x.desc⟩) (hrc : rm.cells = 0) (hrs : rm.slots = 0) (hf1 : rm.frames + 1 ≤ R.frames) (hl1 : 29 + rm.locals ≤ R.locals)
    (hd : x.cls ≠ "java/lang/invoke/MethodHandle" ∧ x.cls ≠ "java/lang/invoke/VarHandle" ∧ (parseMethodDescriptor x.desc).map (fun d => d.parameters.length) = some nn) (hnn : As.length = nn) (hst : st0 = As.reverse ++ .ref (ad k) :: rest) (hroom : (rest.map fun v => v.category).sum ≤ 8) (hdg : decode cc pc = .ok (.invokevirtual idx, 3)) (hf : cells ≤ R.cells ∧ slots ≤ R.slots)
    (kk : ∀ H1 locs1, GW sh ks ad dc D A s σ' H1 locs1 → W p l e R s m args below meth c H1 locs1 cells slots Q (F0 m (pc + 3) ls (.int r0 :: rest))) : W p l e R s m args below meth c H locs cells slots Q (F0 m pc ls st0) := by
  obtain ⟨ci, C, T, n, fl, y, bytes, maxL, ret, hc, hs, hk, hM, h1, h2, h3, h4, h5⟩ := hV
  have hts := C0.2.2.2.2.1
  subst hnn
  refine g_callUi (owner := x.cls) C0 G hl hc hk hs hM ⟨⟨hrc, hrs, hf1, by omega, pay_in hts (lw_meth h4), List.mem_cons_self⟩, hts _ h4, hts _ h3, ⟨hd.1, hd.2.1⟩, fun sig h => ?_, hts _ hq, hts _ hsm, hdecl, hts _ h1, hts _ h2⟩ hst hroom hdg hf kk
  have h9 := hd.2.2
  rw [h] at h9
  exact (Option.some.inj h9).symm
theorem g_copyI (C0 : Cx ad dc D own cc nL p s m args meth c) (G : GW sh ks ad dc D A s σ H locs) (hl : lv_has ls nL lv) {k0 k1 n0 n1 : Nat} (hk0 : k0 ∈ ks) (hs0 : sh k0 = (1, 0, n0, [])) (hk1 : k1 ∈ ks) (hs1 : sh k1 = (1, 0, n1, [])) {sp dp n : Int32} (hc : ¬ sp < 0 ∧ ¬ dp < 0 ∧ ¬ n < 0 ∧ sp.toNatClampNeg + n.toNatClampNeg ≤ n0 ∧ dp.toNatClampNeg + n.toNatClampNeg ≤ n1)
    (hq : Cond.methodLink own idx arraycopyName ∈ lw_all) (hq1 : Cond.native arraycopyName ∈ lw_all) (hq2 : Cond.static arraycopyName ∈ lw_all) (hq3 : Cond.initialized "java/lang/System" ∈ lw_all) (hframes : 1 ≤ R.frames) (hlocals : (rest.map fun v => v.category).sum + (nativeFrameWords "java/lang/System" "arraycopy" 5 + 11) ≤ R.locals) (hdg : decode cc pc = .ok (.invokestatic idx, 3))
    (kk : ∀ σ' H1 locs1, σ' = pC σ k0 k1 sp.toNatClampNeg dp.toNatClampNeg n.toNatClampNeg → GW sh ks ad dc D A s σ' H1 locs1 → W p l e R s m args below meth c H1 locs1 cells slots Q (F0 m (pc + 3) ls rest)) : W p l e R s m args below meth c H locs cells slots Q (F0 m pc ls (.int n :: .int dp :: .ref (ad k1) :: .int sp :: .ref (ad k0) :: rest)) := by
  obtain ⟨i0, e0⟩ := List.getElem?_of_mem hk0
  obtain ⟨i1, e1⟩ := List.getElem?_of_mem hk1
  have hts := C0.2.2.2.2.1
  refine va_copyi C0.1 C0.2.1 (C0.2.2.1.trans hl.1.symm) C0.2.2.2.1 (hts _ hq) (hts _ hq1) (hts _ hq2) (hts _ hq3) C0.2.2.2.2.2.1 G.1 (wsOf_D C0.2.2.2.2.2.2.1 G.2.2.1 G.2.2.2) G.2.1 i0 i1 0 0 ((wsOf_at e0).trans (by rw [ce_a hs0])) ((wsOf_at e1).trans (by rw [ce_a hs1])) rfl rfl rfl hc.1 hc.2.1 hc.2.2.1 hc.2.2.2.1 hc.2.2.2.2 (fun _ _ => rfl) hframes hlocals hdg (fun H1 locs1 hP _ hS => kk _ H1 locs1 rfl ⟨?_, hS, G.2.2⟩)
  rw [wsOf_set (σ' := pC σ k0 k1 sp.toNatClampNeg dp.toNatClampNeg n.toNatClampNeg) G.2.2.1 e1 (by rw [ce_a hs1, gA_pC, if_pos rfl])] at hP
  · exact hP
  · intro c hc
    exact ce_off (fun _ => rfl) (fun _ => rfl) (fun _ => by rw [gA_pC, if_neg hc]) (fun _ => rfl)
end VCALL
