/-! contracts of methods that make cells and throw a Fault; their calls -/
set_option maxRecDepth 100000
/-- thrown: the Fault at the number q, the world as σ' η' say -/
abbrev xXC (ad : Nat → Nat) (dc : Nat → ClassId) (D : va_G) (A : Nat → Prop) (q : Nat) (σ : St) (η : Eta) : String → Addr → State → State → Prop := vq_X (fun (_ : Unit) => True) (fun _ q9 _ t => q9 = ad q ∧ aB ad dc D σ η t) A
abbrev xMet (l : Launch) (ad : Nat → Nat) (dc : Nat → ClassId) (D : va_G) (A : Nat → Prop) (y : MethodName) (bytes : ByteArray) (maxL : Nat) (ret : Option FieldType) (f lo : Nat) (σ : St) (η : Eta) (q : Nat) (σ' : St) (η' : Eta) (av : List Value) : Prop := vq_Met l y (ws_ y bytes maxL ret) (RA f lo (η'.2.1 - η.2.1) (η'.2.2 - η.2.2)) (aPc ad dc D A σ η av) (fun _ _ _ _ => False) (xXC ad dc D A q σ' η') (η'.2.1 - η.2.1) (η'.2.2 - η.2.2) A
/-- what is owed where a Fault leaves -/
def KxA (p : Program) (l : Launch) (e : Env) (R : Room) (s : State) (m : MethodId) (args : Array Value) (below : List Frame) (meth : Method) (c : Code) (Q : State → Prop) (Gf : Heap → List Loc → Prop) (mc ms : Nat) (q : Addr) : Prop := ∀ (pc : Nat) (H : Heap) (locs : List Loc) (ls : Array Slot) (rest : List Value), Gf H locs → vx_W p l e R s m args below meth c H locs mc ms Q (F0 m pc ls rest) q
section XCALL
variable {p : Program} {l : Launch} {e : Env} {R : Room} {s : State} {m : MethodId} {args : Array Value} {below : List Frame} {meth : Method} {c : Code} {H : Heap} {locs : List Loc} {cells slots : Nat} {Q : State → Prop}
variable {cc : ByteArray} {nL : Nat} {ad : Nat → Nat} {dc : Nat → ClassId} {D : va_G} {A : Nat → Prop} {own : String} {σ σ' : St} {η η' : Eta} {pc n0 z0 q : Nat} {ls : Array Slot} {rest st0 : List Value}
variable {y : MethodName} {bytes : ByteArray} {maxL : Nat} {ret : Option FieldType} {idx mc ms : Nat} {As : List Value} {lv : List (Nat × Value)}
/-- the thrown cell -/
theorem x_cell {sh : Nat → Sh} {ks : List Nat} (hK : va_K D vwCl (tysOf dc) s) (G : GW sh ks ad dc D A s σ H locs) (hk : q ∈ ks) (hs : sh q = xD8) : ∃ ce : Cell, H[ad q]? = some ce ∧ ce.vm = .none ∧ s.vm.findClass RX8 = some ce.cls := by
  obtain ⟨i, hi⟩ := List.getElem?_of_mem hk
  have he : (wsOf ks sh ad dc σ)[i]? = some (ad q, .inr (8, xDf8.mapIdx (fun j f => fvOf ad σ q j f))) := (wsOf_at hi).trans (by rw [ce_o hs])
  obtain ⟨r', hr', ce, g1, g2, g3, -⟩ := G.1 i _ he
  have hr : r' = (RX8, TX8, 7) := (Option.some.inj (hr' : some (RX8, TX8, 7) = some r')).symm
  subst hr
  refine ⟨ce, g1, g3, ?_⟩
  rw [g2]
  exact (hK.1 8 _ rfl).2.1
theorem x_callV {f lo : Nat} (C0 : Cx ad dc D own cc nL p s m args meth c) (G : GW η.1 (ksOf η) ad dc D A s σ H locs) (E : EA ad dc A s n0 z0 η cells slots) (hl : lv_has ls nL lv) {C : String} {T : u_T} {n ci : Nat} {fl : List (Nat × Nat)} (hc : vwCl[ci]? = some (C, T, n)) {k : Nat} (hk : k ∈ ksOf η) (hs : η.1 k = (0, ci, 0, fl)) (hx : EX η η')
    (hM : xMet l ad dc D A y bytes maxL ret f lo σ η q σ' η' (.ref (ad k) :: As)) (cw : CallW R s args own C idx y bytes maxL ret (ws_ y bytes maxL ret) (RA f lo (η'.2.1 - η.2.1) (η'.2.2 - η.2.2)) (η'.2.1 - η.2.1) (η'.2.2 - η.2.2) As.length) (hst : st0 = As.reverse ++ .ref (ad k) :: rest) (hroom : (rest.map fun v => v.category).sum ≤ 8) (hdg : decode cc pc = .ok (.invokevirtual idx, 3)) (hf : cells + (η'.2.1 - η.2.1) ≤ R.cells ∧ slots + (η'.2.2 - η.2.2) ≤ R.slots)
    (kk : ∀ H1 locs1, GW η'.1 (ksOf η') ad dc D A s σ' H1 locs1 → EA ad dc A s n0 z0 η' (cells + (η'.2.1 - η.2.1)) (slots + (η'.2.2 - η.2.2)) → vx_W p l e R s m args below meth c H1 locs1 (cells + (η'.2.1 - η.2.1)) (slots + (η'.2.2 - η.2.2)) Q (F0 m pc ls rest) (ad q)) : W p l e R s m args below meth c H locs cells slots Q (F0 m pc ls st0) := by
  refine W_size fun hsz => ?_
  intro T hT X
  rcases (vq_runV ⟨C0.1, C0.2.1, C0.2.2.1, C0.2.2.2.1, C0.2.2.2.2.1⟩ hM cw (a_preV C0 G E hsz hc hk hs) (g := F0 m pc ls st0) (rest := rest) rfl rfl hl.1 hst (lv_room hroom) hdg hf) T hT X with ⟨v, st₀, t, T', L, h0, X', hL, e1, e2, hq, st⟩ | ⟨q9, st₀, t, T', L, E9, ce, h0, X', hL, e1, e2, ⟨u, hp, hb, hF⟩, hce, hcv, hcl, st⟩
  · exact hq.elim
  · obtain ⟨k1, k2, k3⟩ := vx_keep h0 e1 G.2.1 (fun _ _ h => h) (fun _ h => h) hL hF
    obtain ⟨rfl, hB⟩ := hb
    obtain ⟨G1, E1⟩ := a_back (σ' := σ') G E hx (e1.symm ▸ hB : va_P D vwCl _ T'.heap) k3
    obtain ⟨t2, a1, b1⟩ := kk _ _ G1 E1 T' rfl X'
    exact ⟨t2, st.trans a1, b1⟩
theorem x_met {f lo : Nat} {av : List Value} (hq : η'.1 q = xD8) (hw : wfE η') (hy : plainName y.cls = true) (hyc : y.cls = own) (hi : ∀ i j, ad i = ad j → i = j) (hA : ∀ k, k ∈ ksOf η → A (ad k)) (hlen : (lg_sl av).length ≤ nL)
    (body : ∀ (p : Program) (e : Env) (s : State) (m : MethodId) (below : List Frame) (meth : Method) (c : Code) (Q : State → Prop), Cx ad dc D own cc nL p s m av.toArray meth c → meth.name = y.name → KxA p l e (RA f lo (η'.2.1 - η.2.1) (η'.2.2 - η.2.2)) s m av.toArray below meth c Q (GW η'.1 (ksOf η') ad dc D A s σ') (η'.2.1 - η.2.1) (η'.2.2 - η.2.2) (ad q) → EA ad dc A s η.2.1 η.2.2 η 0 0 → ∀ ls, lv_has ls nL (lv_args 0 av) → GW η.1 (ksOf η) ad dc D A s σ s.heap [] → W p l e (RA f lo (η'.2.1 - η.2.1) (η'.2.2 - η.2.2)) s m av.toArray below meth c s.heap [] 0 0 Q (F0 m 0 ls [])) :
    xMet l ad dc D A y cc nL ret f lo σ η q σ' η' av := by
  refine vq_ofW (cc := cc) (maxL := nL) (ret := ret) hy rfl ?_
  intro p e s m args below meth c s₁ B hml htb hv
  obtain ⟨rfl, hP, hK, hN, hE⟩ := hv
  have hts := atoms_spec (ws := ws_ y cc nL ret) B.pre
  rw [lg_entry_eq]
  refine body p e s m below meth c _ ⟨B.exec, B.bytes, hml, hyc ▸ findClass_of_methodNamed B.named, fun w h => hts w (List.mem_cons_of_mem _ h), hK, hi, hN, B.notSynchronized⟩ (name_of_methodNamed B.named B.method).1 (fun pc H locs ls rest G => ?_) hE _ (lv_entry av hlen) ⟨hP, va_S.rf, ks_nd _, hA⟩
  obtain ⟨ce, g1, g2, g3⟩ := x_cell hK G (ks_mem hw (by rw [hq]; exact (by decide : (0 : Nat) ≠ 9))) hq
  exact vq_out (E := RX8) (fun x hx => (htb x hx).elim) B.notSynchronized g1 g2 g3 (fun t ht hW => ⟨(), trivial, ⟨rfl, by show va_P _ _ _ t.heap; rw [ht]; exact G.1⟩, G.2.1.F ht⟩) G.2.1.2.2 (Nat.le_refl _) (Nat.le_refl _)
end XCALL
