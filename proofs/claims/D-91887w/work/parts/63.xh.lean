/-! methods with handlers: contracts that return; a static call that answers an int -/
set_option maxRecDepth 100000
theorem m_ofWH {l : Launch} {y : MethodName} {ws ws' : List Cond} {rm : Room} {Pc : Array Value → State → Prop} {Qc : Array Value → State → Outcome → State → Prop} {mc ms : Nat} {free : Addr → Prop} {cc : ByteArray} {maxL : Nat} {ret : Option FieldType} {hh : List (Nat × Nat × Nat × Nat)}
    (hy : plainName y.cls = true) (hw : ws = Cond.codeWith y cc maxL ret hh :: ws')
    (body : ∀ p e s m args below meth c s₁, BodyLoose p l y (headSpec ws rm) cc maxL ret e s m args below meth c s₁ → c.maxLocals = maxL → Pc args s →
      W p l e (headSpec ws rm).room s m args below meth c s.heap [] 0 0 (MQ below Qc args s mc ms free) (entryFrame m args maxL)) : Met l y ws rm Pc Qc mc ms free := by
  refine MetFree.of_bodyS (code := cc) (maxLocals := maxL) (ret := ret) hy ?_ ?_
  · intro args s m h hn
    obtain ⟨m9, meth, c, hn9, h1, h2, h3, h4, -, h5, h6, -⟩ := Cond.codeWith_spec (atoms_spec (ws := ws) h _ (by rw [hw]; exact List.mem_cons_self))
    cases hn.symm.trans hn9
    exact ⟨meth, c, h1, h2, h3, h4, h5, h6⟩
  · intro p e s m args below meth c s₁ B hml hP _
    have hh0 : s₁.heap = s.heap := by rw [B.state]; rfl
    obtain ⟨t, a1, o, b1, b2, b3⟩ := body p e s m args below meth c s₁ B hml hP s₁ hh0 (Stand.of_body B)
    exact ⟨t, o, a1, b1, b2, ⟨b3.1, b3.2⟩⟩
section XH
variable {p : Program} {l : Launch} {e : Env} {R : Room} {s : State} {m : MethodId} {args : Array Value} {below : List Frame} {meth : Method} {c : Code} {H : Heap} {locs : List Loc} {cells slots : Nat} {Q : State → Prop}
variable {cc : ByteArray} {nL : Nat} {ad : Nat → Nat} {dc : Nat → ClassId} {D : va_G} {A : Nat → Prop} {own : String} {σ σ' : St} {η η' : Eta} {pc n0 z0 : Nat} {ls : Array Slot} {rest st0 : List Value}
variable {y : MethodName} {bytes : ByteArray} {maxL : Nat} {ret : Option FieldType} {rm : Room} {idx mc ms : Nat} {As : List Value} {lv : List (Nat × Value)} {hh : List (Nat × Nat × Nat × Nat)}
theorem a_metIW {f lo : Nat} {av : List Value} {r0 : Int32} (hy : plainName y.cls = true) (hyc : y.cls = own) (hi : ∀ i j, ad i = ad j → i = j) (hA : ∀ k, k ∈ ksOf η → A (ad k)) (hlen : (lg_sl av).length ≤ nL)
    (body : ∀ (p : Program) (e : Env) (s : State) (m : MethodId) (below : List Frame) (meth : Method) (c : Code) (Q : State → Prop), Cx ad dc D own cc nL p s m av.toArray meth c → meth.name = y.name → c.exceptionTable.toList = tableOf hh → KrAI p l e (RA f lo mc ms) s m av.toArray below meth c cc Q (GW η'.1 (ksOf η') ad dc D A s σ') mc ms r0 → EA ad dc A s η.2.1 η.2.2 η 0 0 → ∀ ls, lv_has ls nL (lv_args 0 av) → GW η.1 (ksOf η) ad dc D A s σ s.heap [] → W p l e (RA f lo mc ms) s m av.toArray below meth c s.heap [] 0 0 Q (F0 m 0 ls [])) :
    Met l y (wsW_ y cc nL (some .int) hh) (RA f lo mc ms) (aPc ad dc D A σ η av) (aQi ad dc D A r0 σ' η') mc ms A := by
  refine m_ofWH (cc := cc) (maxL := nL) (ret := some .int) (hh := hh) hy rfl ?_
  intro p e s m args below meth c s₁ B hml hv
  obtain ⟨rfl, hP, hK, hN, hE⟩ := hv
  have hts := atoms_spec (ws := wsW_ y cc nL (some .int) hh) B.pre
  have htab := vx_table (x := y) B (hts _ List.mem_cons_self)
  rw [lg_entry_eq]
  exact body p e s m below meth c _ ⟨B.exec, B.bytes, hml, hyc ▸ findClass_of_methodNamed B.named, fun w h => hts w (List.mem_cons_of_mem _ h), hK, hi, hN, B.notSynchronized⟩ (name_of_methodNamed B.named B.method).1 htab (fun pc H locs ls hd G => W.iret B.exec B.bytes B.returns (fun t ht hW => ⟨⟨r0, (), rfl, rfl, by show va_P _ _ _ t.heap; rw [ht]; exact G.1⟩, G.2.1.F ht⟩) G.2.1.2.2 hd) hE _ (lv_entry av hlen) ⟨hP, va_S.rf, ks_nd _, hA⟩
theorem a_callSi {f lo : Nat} (C0 : Cx ad dc D own cc nL p s m args meth c) (G : GW η.1 (ksOf η) ad dc D A s σ H locs) (E : EA ad dc A s n0 z0 η cells slots) (hl : lv_has ls nL lv) {r0 : Int32} (hx : EX η η')
    (hM : aMet l ad dc D A y bytes maxL ret f lo σ η η' As (aQi ad dc D A r0 σ' η')) (cw : CallB R s args own idx y bytes maxL ret (ws_ y bytes maxL ret) (RA f lo (η'.2.1 - η.2.1) (η'.2.2 - η.2.2)) (η'.2.1 - η.2.1) (η'.2.2 - η.2.2) As.length ∧ (Cond.static y).before args s = true) (hst : st0 = As.reverse ++ rest) (hroom : (rest.map fun v => v.category).sum ≤ 8) (hdg : decode cc pc = .ok (.invokestatic idx, 3)) (hf : cells + (η'.2.1 - η.2.1) ≤ R.cells ∧ slots + (η'.2.2 - η.2.2) ≤ R.slots)
    (kk : ∀ H1 locs1, GW η'.1 (ksOf η') ad dc D A s σ' H1 locs1 → EA ad dc A s n0 z0 η' (cells + (η'.2.1 - η.2.1)) (slots + (η'.2.2 - η.2.2)) → W p l e R s m args below meth c H1 locs1 (cells + (η'.2.1 - η.2.1)) (slots + (η'.2.2 - η.2.2)) Q (F0 m (pc + 3) ls (.int r0 :: rest))) : W p l e R s m args below meth c H locs cells slots Q (F0 m pc ls st0) := by
  refine W_size fun hsz => ?_
  refine va_calli (va_runS ⟨C0.1, C0.2.1, C0.2.2.1, C0.2.2.2.1, C0.2.2.2.2.1⟩ hM cw (a_pc C0 G E hsz) rfl rfl hl.1 hst (lv_room hroom) hdg hf) G.2.1 (fun _ _ h => h) (fun _ h => h) (fun r u t H1 locs1 ht hvm hr hB hz hk1 hS => ?_)
  subst hr
  obtain ⟨G1, E1⟩ := a_back (σ' := σ') G E hx (ht ▸ hB) hS
  exact kk H1 locs1 G1 E1
end XH
