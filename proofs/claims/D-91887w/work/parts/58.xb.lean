/-! outcomes of methods that throw; the store into a step's test -/
set_option maxRecDepth 100000
/-- a step's end: (thrown) or (answered) -/
def bx2 {β : Type} (x : Option ((St × Eta) ⊕ (Nat × St × Eta))) (g : Nat → St → Eta → Option β) (f : St → Eta → Option β) : Option β := match x with
  | some (.inl (σ, η)) => f σ η
  | some (.inr (q, σ, η)) => g q σ η
  | none => none
theorem bx2_e {β : Type} {x : Option ((St × Eta) ⊕ (Nat × St × Eta))} {g : Nat → St → Eta → Option β} {f : St → Eta → Option β} {o : β} (h : bx2 x g f = some o) : (∃ q σ η, x = some (.inr (q, σ, η)) ∧ g q σ η = some o) ∨ (∃ σ η, x = some (.inl (σ, η)) ∧ f σ η = some o) := by
  unfold bx2 at h
  split at h
  · exact Or.inr ⟨_, _, rfl, h⟩
  · exact Or.inl ⟨_, _, _, rfl, h⟩
  · cases h
def bx3 {α β : Type} (x : Option ((α × St × Eta) ⊕ (Nat × St × Eta))) (g : Nat → St → Eta → Option β) (f : α → St → Eta → Option β) : Option β := match x with
  | some (.inl (a, σ, η)) => f a σ η
  | some (.inr (q, σ, η)) => g q σ η
  | none => none
theorem bx3_e {α β : Type} {x : Option ((α × St × Eta) ⊕ (Nat × St × Eta))} {g : Nat → St → Eta → Option β} {f : α → St → Eta → Option β} {o : β} (h : bx3 x g f = some o) : (∃ q σ η, x = some (.inr (q, σ, η)) ∧ g q σ η = some o) ∨ (∃ a σ η, x = some (.inl (a, σ, η)) ∧ f a σ η = some o) := by
  unfold bx3 at h
  split at h
  · exact Or.inr ⟨_, _, _, rfl, h⟩
  · exact Or.inl ⟨_, _, _, rfl, h⟩
  · cases h
/-- what is thrown is a Fault -/
def ckF {α : Type} (x : Option (α ⊕ (Nat × St × Eta))) : Option (α ⊕ (Nat × St × Eta)) := match x with
  | some (.inl a) => some (.inl a)
  | some (.inr (q, σ, η)) => if η.1 q = xD8 then some (.inr (q, σ, η)) else none
  | none => none
theorem ckF_o {α : Type} {x : Option (α ⊕ (Nat × St × Eta))} {o : α ⊕ (Nat × St × Eta)} (h : ckF x = some o) : x = some o := by
  unfold ckF at h
  split at h
  · exact h
  · split at h
    · exact h
    · cases h
  · cases h
theorem ckF_r {α : Type} {x : Option (α ⊕ (Nat × St × Eta))} {q : Nat} {σ : St} {η : Eta} (h : ckF x = some (.inr (q, σ, η))) : x = some (.inr (q, σ, η)) ∧ η.1 q = xD8 := by
  refine ⟨ckF_o h, ?_⟩
  rw [ckF_o h] at h
  unfold ckF at h
  split at h
  · rename_i h2; cases h2
  · rename_i h2
    cases h2
    split at h
    · assumption
    · cases h
  · cases h
abbrev eoR (o : (Nat × St × Eta) ⊕ (Nat × St × Eta)) : Eta := Sum.elim (fun v : Nat × St × Eta => v.2.2) (fun v : Nat × St × Eta => v.2.2) o
theorem x_metE {l : Launch} {ad : Nat → Nat} {dc : Nat → ClassId} {D : va_G} {A : Nat → Prop} {own : String} {σ σ' : St} {η η' : Eta} {q nL : Nat} {y : MethodName} {cc : ByteArray} {ret : Option FieldType} {f lo : Nat} {av : List Value} (hq : η'.1 q = xD8) (hx : EX η η') (hy : plainName y.cls = true) (hyc : y.cls = own) (hi : ∀ i j, ad i = ad j → i = j) (hA : ∀ k, k ∈ ksOf η → A (ad k)) (hlen : (lg_sl av).length ≤ nL)
    (body : ∀ (p : Program) (e : Env) (s : State) (m : MethodId) (below : List Frame) (meth : Method) (c : Code) (Q : State → Prop), Cx ad dc D own cc nL p s m av.toArray meth c → meth.name = y.name → KxA p l e (RA f lo (η'.2.1 - η.2.1) (η'.2.2 - η.2.2)) s m av.toArray below meth c Q (GW η'.1 (ksOf η') ad dc D A s σ') (η'.2.1 - η.2.1) (η'.2.2 - η.2.2) (ad q) → EA ad dc A s η.2.1 η.2.2 η 0 0 → ∀ ls, lv_has ls nL (lv_args 0 av) → GW η.1 (ksOf η) ad dc D A s σ s.heap [] → W p l e (RA f lo (η'.2.1 - η.2.1) (η'.2.2 - η.2.2)) s m av.toArray below meth c s.heap [] 0 0 Q (F0 m 0 ls [])) :
    xMet l ad dc D A y cc nL ret f lo σ η q σ' η' av := by
  refine vq_ofW (cc := cc) (maxL := nL) (ret := ret) hy rfl ?_
  intro p e s m args below meth c s₁ B hml htb hv
  obtain ⟨rfl, hP, hK, hN, hE⟩ := hv
  have hw : wfE η' := hx.2.2.2.2 hE.2.2.2.1
  have hts := atoms_spec (ws := ws_ y cc nL ret) B.pre
  rw [lg_entry_eq]
  refine body p e s m below meth c _ ⟨B.exec, B.bytes, hml, hyc ▸ findClass_of_methodNamed B.named, fun w h => hts w (List.mem_cons_of_mem _ h), hK, hi, hN, B.notSynchronized⟩ (name_of_methodNamed B.named B.method).1 (fun pc H locs ls rest G => ?_) hE _ (lv_entry av hlen) ⟨hP, va_S.rf, ks_nd _, hA⟩
  obtain ⟨ce, g1, g2, g3⟩ := x_cell hK G (ks_mem hw (by rw [hq]; exact (by decide : (0 : Nat) ≠ 9))) hq
  exact vq_out (E := RX8) (fun x hx => (htb x hx).elim) B.notSynchronized g1 g2 g3 (fun t ht hW => ⟨(), trivial, ⟨rfl, by show va_P _ _ _ t.heap; rw [ht]; exact G.1⟩, G.2.1.F ht⟩) G.2.1.2.2 (Nat.le_refl _) (Nat.le_refl _)
/-- a recursive method's contracts, for every call that the function FS knows -/
def RecC (l : Launch) (ad : Nat → Nat) (dc : Nat → ClassId) (D : va_G) (A : Nat → Prop) (y : MethodName) (cc : ByteArray) (maxL : Nat) (ret : Option FieldType) (f lo : Nat) (FS : Nat → St → Eta → Option ((Nat × St × Eta) ⊕ (Nat × St × Eta))) : Prop :=
  (∀ a σ η o, FS a σ η = some o → EX η (eoR o)) ∧
  (∀ a σ η r σ' η', (∀ k, k ∈ ksOf η → A (ad k)) → FS a σ η = some (.inl (r, σ', η')) → aMet l ad dc D A y cc maxL ret f lo σ η η' [.ref (ad a)] (aQr ad dc D A r σ' η')) ∧
  (∀ a σ η q σ' η', (∀ k, k ∈ ksOf η → A (ad k)) → FS a σ η = some (.inr (q, σ', η')) → xMet l ad dc D A y cc maxL ret f lo σ η q σ' η' [.ref (ad a)])
/-- a step, of whichever class -/
def isStep (q : Sh) : Prop := q = xD9 ∨ q = xD15 ∨ q = xD16 ∨ q = xD17 ∨ q = xD18 ∨ q = xD19
noncomputable def ckStep {β : Type} (q : Sh) (x : Option β) : Option β := @ite _ (isStep q) (Classical.propDecidable _) x none
theorem ckStep_e {β : Type} {q : Sh} {x : Option β} {o : β} (h : ckStep q x = some o) : isStep q ∧ x = some o := by
  unfold ckStep at h
  split at h
  · exact ⟨by assumption, h⟩
  · cases h
theorem isStep_0 {q : Sh} (h : isStep q) : q.1 ≠ 9 := by
  rcases h with rfl | rfl | rfl | rfl | rfl | rfl <;> exact (by decide : (0 : Nat) ≠ 9)
section PW
variable {p : Program} {l : Launch} {e : Env} {R : Room} {s : State} {m : MethodId} {args : Array Value} {below : List Frame} {meth : Method} {c : Code} {H : Heap} {locs : List Loc} {cells slots : Nat} {Q : State → Prop}
variable {cc : ByteArray} {nL : Nat} {sh : Nat → Sh} {ks : List Nat} {ad : Nat → Nat} {dc : Nat → ClassId} {D : va_G} {A : Nat → Prop} {own : String} {σ : St} {pc idx : Nat} {ls : Array Slot} {rest : List Value}
theorem g_putWhen (C0 : Cx ad dc D own cc nL p s m args meth c) (G : GW sh ks ad dc D A s σ H locs) {k : Nat} (hk : k ∈ ks) (hs : isStep (sh k)) {host : String} (hq : va_Nw (.fieldLinkNest own idx "HotIron$Step" "when" "LHotIron$Test;" host) s) (hdg : decode cc pc = .ok (.putfield idx, 3)) {v : Nat}
    (kk : ∀ σ' H1 locs1, σ' = pR σ k 1 (some v) → GW sh ks ad dc D A s σ' H1 locs1 → W p l e R s m args below meth c H1 locs1 cells slots Q (F0 m (pc + 3) ls rest)) : W p l e R s m args below meth c H locs cells slots Q (F0 m pc ls (.ref (ad v) :: .ref (ad k) :: rest)) := by
  rcases hs with hs | hs | hs | hs | hs | hs
  · exact g_putRN (x := some v) C0 G in_X10 tyX10_ok nmX10 (ci := 9) rfl hk (fl := xDf9) hs 1 (by decide) rfl hq rfl hdg rfl ⟨rfl, rfl⟩ kk
  · exact g_putRN (x := some v) C0 G in_X17 tyX17_ok nmX17 (ci := 15) rfl hk (fl := xDf15) hs 1 (by decide) rfl hq rfl hdg rfl ⟨rfl, rfl⟩ kk
  · exact g_putRN (x := some v) C0 G in_X18 tyX18_ok nmX18 (ci := 16) rfl hk (fl := xDf16) hs 1 (by decide) rfl hq rfl hdg rfl ⟨rfl, rfl⟩ kk
  · exact g_putRN (x := some v) C0 G in_X19 tyX19_ok nmX19 (ci := 17) rfl hk (fl := xDf17) hs 1 (by decide) rfl hq rfl hdg rfl ⟨rfl, rfl⟩ kk
  · exact g_putRN (x := some v) C0 G in_X20 tyX20_ok nmX20 (ci := 18) rfl hk (fl := xDf18) hs 1 (by decide) rfl hq rfl hdg rfl ⟨rfl, rfl⟩ kk
  · exact g_putRN (x := some v) C0 G in_X21 tyX21_ok nmX21 (ci := 19) rfl hk (fl := xDf19) hs 1 (by decide) rfl hq rfl hdg rfl ⟨rfl, rfl⟩ kk
end PW
