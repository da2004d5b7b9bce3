/-! making cells: numbers in the order of making; addresses base + number -/
set_option maxRecDepth 100000
/-- shapes, how many cells were made, how many slots -/
abbrev Eta : Type := (Nat → Sh) × Nat × Nat
def ksOf (η : Eta) : List Nat := (List.range η.2.1).filter (fun k => decide ((η.1 k).1 ≠ 9))
def wfE (η : Eta) : Prop := ∀ k, η.2.1 ≤ k → (η.1 k).1 = 9
theorem ks_nd (η : Eta) : (ksOf η).Nodup := List.Pairwise.filter _ List.nodup_range
theorem ks_mem {η : Eta} (hw : wfE η) {k : Nat} (h : (η.1 k).1 ≠ 9) : k ∈ ksOf η := by
  refine List.mem_filter.mpr ⟨List.mem_range.mpr ?_, decide_eq_true h⟩
  rcases Nat.lt_or_ge k η.2.1 with q | q
  · exact q
  · exact absurd (hw k q) h
theorem ks_lt {η : Eta} {k : Nat} (h : k ∈ ksOf η) : k < η.2.1 ∧ (η.1 k).1 ≠ 9 := by
  obtain ⟨h1, h2⟩ := List.mem_filter.mp h
  exact ⟨List.mem_range.mp h1, of_decide_eq_true h2⟩
/-- a new cell -/
def aE (η : Eta) (q : Sh) (z : Nat) : Eta := (fun k => if k = η.2.1 then q else η.1 k, η.2.1 + 1, η.2.2 + z)
def aS (σ : St) (n : Nat) : St := (fun c k => if c = n then 0 else σ.1 c k, fun c k => if c = n then 0 else σ.2.1 c k, fun c k => if c = n then 0 else σ.2.2.1 c k, fun c k => if c = n then none else σ.2.2.2 c k)
theorem gI_aS (σ : St) (n c k : Nat) : gI (aS σ n) c k = if c = n then 0 else gI σ c k := rfl
theorem gL_aS (σ : St) (n c k : Nat) : gL (aS σ n) c k = if c = n then 0 else gL σ c k := rfl
theorem gA_aS (σ : St) (n c k : Nat) : gA (aS σ n) c k = if c = n then 0 else gA σ c k := rfl
theorem gR_aS (σ : St) (n c k : Nat) : gR (aS σ n) c k = if c = n then none else gR σ c k := rfl
theorem ks_aE {η : Eta} {q : Sh} {z : Nat} (hq : q.1 ≠ 9) : ksOf (aE η q z) = ksOf η ++ [η.2.1] := by
  unfold ksOf
  show (List.range (η.2.1 + 1)).filter _ = _
  rw [List.range_succ, List.filter_append]
  congr 1
  · apply List.filter_congr
    intro k hk
    have h : k ≠ η.2.1 := by have := List.mem_range.mp hk; omega
    show decide (((if k = η.2.1 then q else η.1 k)).1 ≠ 9) = _
    rw [if_neg h]
  · show List.filter _ [η.2.1] = _
    rw [List.filter_cons, if_pos]
    · rfl
    · show decide (((if η.2.1 = η.2.1 then q else η.1 η.2.1)).1 ≠ 9) = true
      rw [if_pos rfl]
      exact decide_eq_true hq
/-- how a run grows the cells -/
def EX (η η' : Eta) : Prop := η.2.1 ≤ η'.2.1 ∧ η.2.2 ≤ η'.2.2 ∧ (∀ k, k < η.2.1 → η'.1 k = η.1 k) ∧ (η'.2.1 = η.2.1 ∨ (η'.1 (η'.2.1 - 1)).1 ≠ 9) ∧ (wfE η → wfE η')
theorem EX.rf {η : Eta} : EX η η := ⟨Nat.le_refl _, Nat.le_refl _, fun _ _ => rfl, Or.inl rfl, id⟩
theorem EX.tr {a b c : Eta} (h1 : EX a b) (h2 : EX b c) : EX a c := by
  obtain ⟨p1, p2, p3, p4, p5⟩ := h1
  obtain ⟨q1, q2, q3, q4, q5⟩ := h2
  refine ⟨Nat.le_trans p1 q1, Nat.le_trans p2 q2, fun k hk => (q3 k (by omega)).trans (p3 k hk), ?_, fun h => q5 (p5 h)⟩
  rcases q4 with q4 | q4
  · rcases p4 with p4 | p4
    · exact Or.inl (q4.trans p4)
    · rcases Nat.lt_or_ge (b.2.1 - 1) b.2.1 with h | h
      · exact Or.inr (by rw [q4, q3 _ h]; exact p4)
      · exact Or.inl (by omega)
  · exact Or.inr q4
theorem EX.aE {η : Eta} {q : Sh} {z : Nat} (hq : q.1 ≠ 9) : EX η (aE η q z) := by
  refine ⟨Nat.le_succ _, Nat.le_add_right _ _, fun k hk => if_neg (by omega), Or.inr ?_, fun h k hk => ?_⟩
  · show (if η.2.1 + 1 - 1 = η.2.1 then q else _).1 ≠ 9
    rw [if_pos (by omega)]
    exact hq
  · have hk : η.2.1 + 1 ≤ k := hk
    show (if k = η.2.1 then q else η.1 k).1 = 9
    rw [if_neg (by omega)]
    exact h k (by omega)
/-- the Reader's String constants: place in its pool, text -/
def sTab : List (Nat × String) := [(88, "fire"), (213, "iron"), (205, "cells"), (207, "left"), (209, "heats"), (211, "struck"), (218, "hot"), (220, "["), (225, "]"), (169, "("), (174, ")"), (193, "+"), (195, "-"), (99, "shoulder"), (104, "punch"), (109, "weld"), (114, "go"), (126, "strike"), (132, "to"), (72, "if"), (159, "not"), (179, "<"), (181, ">"), (183, "="), (154, "and"), (141, "or"), (64, ";")]
def sLen : List Nat := [4, 4, 5, 4, 5, 6, 3, 1, 1, 1, 1, 1, 1, 8, 5, 4, 2, 6, 2, 2, 3, 1, 1, 1, 3, 2, 1]
def sByt : List (List Int32) := [[102, 105, 114, 101], [105, 114, 111, 110], [99, 101, 108, 108, 115], [108, 101, 102, 116], [104, 101, 97, 116, 115], [115, 116, 114, 117, 99, 107], [104, 111, 116], [91], [93], [40], [41], [43], [45], [115, 104, 111, 117, 108, 100, 101, 114], [112, 117, 110, 99, 104], [119, 101, 108, 100], [103, 111], [115, 116, 114, 105, 107, 101], [116, 111], [105, 102], [110, 111, 116], [60], [62], [61], [97, 110, 100], [111, 114], [59]]
/-- what lies outside the numbered cells: the statics that a throw looks at; String constants -/
def ZZ (dc : Nat → ClassId) (A : Nat → Prop) (s : State) (H : Heap) : Prop := (vx_Zq Bundle.tN "UNASSIGNED_STACK" Bundle.steD A s H ∧ vx_Zq Bundle.tN "SUPPRESSED_SENTINEL" Bundle.listD A s H) ∧ vk_S 27 sLen sByt (fun i => dc (20 + i)) (fun i => dc (60 + i)) A s H ∧ (∀ i q, sTab[i]? = some q → vk_R "HotIron$Reader" q.1 q.2 (dc (20 + i)) s) ∧ va_Z "java/lang/String" "COMPACT_STRINGS" "Z" (.int 1) A s H ∧ va_Zq "jdk/internal/util/Preconditions" "SIOOBE_FORMATTER" "Ljava/util/function/BiFunction;" A s H
theorem ZZ.to {dc : Nat → ClassId} {A : Nat → Prop} {s U : State} {H H1 : Heap} (h : ZZ dc A s H) (hvm : s.vm.Alike U.vm) (hq : ∀ a : Nat, a < H.size → ¬ A a → H1[a]? = H[a]?) (hR : ∀ own k tx a, vk_R own k tx a s → vk_R own k tx a U) : ZZ dc A U H1 := ⟨⟨(h.1.1.moved hvm).kept hq, (h.1.2.moved hvm).kept hq⟩, (h.2.1.moved hvm).kept hq, fun i q hi => hR _ _ _ _ (h.2.2.1 i q hi), (va_Z.moved hvm h.2.2.2.1).kept hq, (va_Zq.moved hvm h.2.2.2.2).kept hq⟩
/-- the counting, in the midst of a method that began with n0 cells and z0 slots -/
def EA (ad : Nat → Nat) (dc : Nat → ClassId) (A : Nat → Prop) (s : State) (n0 z0 : Nat) (η : Eta) (cells slots : Nat) : Prop :=
  η.2.1 = n0 + cells ∧ η.2.2 = z0 + slots ∧ (cells = 0 ∨ (η.1 (η.2.1 - 1)).1 ≠ 9) ∧ wfE η ∧ (∃ base, s.heap.size = base + n0 ∧ ∀ k, n0 ≤ k → ad k = base + k) ∧ (∀ k, n0 ≤ k → A (ad k)) ∧ ZZ dc A s s.heap
theorem EA.ex {ad : Nat → Nat} {dc : Nat → ClassId} {A : Nat → Prop} {s : State} {n0 z0 : Nat} {η η' : Eta} {cells slots : Nat} (E : EA ad dc A s n0 z0 η cells slots) (h : EX η η') : EA ad dc A s n0 z0 η' (cells + (η'.2.1 - η.2.1)) (slots + (η'.2.2 - η.2.2)) := by
  obtain ⟨e1, e2, e3, e4, e5, e6⟩ := E
  obtain ⟨p1, p2, p3, p4, p5⟩ := h
  refine ⟨by omega, by omega, ?_, p5 e4, e5, e6⟩
  rcases p4 with p4 | p4
  · rcases e3 with e3 | e3
    · exact Or.inl (by omega)
    · rcases Nat.lt_or_ge (η.2.1 - 1) η.2.1 with q | q
      · exact Or.inr (by rw [p4, p3 _ q]; exact e3)
      · exact Or.inl (by omega)
  · exact Or.inr p4
section ABASE
variable {p : Program} {l : Launch} {e : Env} {R : Room} {s : State} {m : MethodId} {args : Array Value} {below : List Frame} {meth : Method} {c : Code} {H : Heap} {locs : List Loc} {cells slots : Nat} {Q : State → Prop}
variable {cc : ByteArray} {nL : Nat} {ad : Nat → Nat} {dc : Nat → ClassId} {D : va_G} {A : Nat → Prop} {own : String} {σ : St} {η : Eta} {pc n0 z0 : Nat} {ls : Array Slot} {rest : List Value}
theorem W_size {g : JFrame} (k : H.size ≤ s.heap.size + cells → W p l e R s m args below meth c H locs cells slots Q g) : W p l e R s m args below meth c H locs cells slots Q g := by
  intro T hT X
  have h : (T.setVm s.vm).heap.size ≤ s.heap.size + cells := X.same.2.2.1
  exact k (by rw [← hT]; exact h) T hT X
theorem ea_size (G : GW η.1 (ksOf η) ad dc D A s σ H locs) (E : EA ad dc A s n0 z0 η cells slots) (h : H.size ≤ s.heap.size + cells) : H.size = ad η.2.1 := by
  obtain ⟨e1, e2, e3, e4, ⟨base, e5, e6⟩, e7⟩ := E
  rw [e6 _ (by omega)]
  rcases e3 with e3 | e3
  · have := G.2.1.1
    omega
  · rcases Nat.eq_zero_or_pos cells with q | q
    · have := G.2.1.1
      omega
    · have hk : η.2.1 - 1 ∈ ksOf η := ks_mem e4 e3
      obtain ⟨i, hi⟩ := List.getElem?_of_mem hk
      have := (G.1 i _ (wsOf_at hi)).lt
      have h2 : ad (η.2.1 - 1) < H.size := this
      rw [e6 _ (by omega)] at h2
      omega
/-- the world, one cell more -/
theorem ea_push {H1 : Heap} {q : Sh} {z : Nat} (G : GW η.1 (ksOf η) ad dc D A s σ H locs) (E : EA ad dc A s n0 z0 η cells slots) (hq : q.1 ≠ 9) (hs : H.size = ad η.2.1) (z1 : H1.size = H.size + 1) (o1 : ∀ x, x < H.size → H1[x]? = H[x]?) (hn : va_at D vwCl (ad η.2.1, ceOf ad dc (aS σ η.2.1) η.2.1 q) H1) :
    GW (aE η q z).1 (ksOf (aE η q z)) ad dc D A s (aS σ η.2.1) H1 locs ∧ EA ad dc A s n0 z0 (aE η q z) (cells + 1) (slots + z) := by
  have e1 : wsOf (ksOf (aE η q z)) (aE η q z).1 ad dc (aS σ η.2.1) = wsOf (ksOf η) η.1 ad dc σ ++ [(ad η.2.1, ceOf ad dc (aS σ η.2.1) η.2.1 q)] := by
    rw [ks_aE hq]
    unfold wsOf
    rw [List.map_append]
    congr 1
    · apply List.map_congr_left
      intro k hk
      have h : k ≠ η.2.1 := by have := (ks_lt hk).1; omega
      have h2 : (aE η q z).1 k = η.1 k := if_neg h
      rw [h2, ce_off (σ := σ) (σ' := aS σ η.2.1) (fun j => by rw [gI_aS, if_neg h]) (fun j => by rw [gL_aS, if_neg h]) (fun j => by rw [gA_aS, if_neg h]) (fun j => by rw [gR_aS, if_neg h])]
    · have h2 : (aE η q z).1 η.2.1 = q := if_pos rfl
      simp only [List.map_cons, List.map_nil, h2]
  refine ⟨⟨?_, ⟨by have := G.2.1.1; omega, fun x h1 h2 => (o1 x (Nat.lt_of_lt_of_le h1 G.2.1.1)).trans (G.2.1.2.1 x h1 h2), G.2.1.2.2⟩, ks_nd _, ?_⟩, ?_⟩
  · rw [e1]
    refine va_P.app (G.1.kept (fun k x hx => o1 x.1 ((G.1 k x hx).lt))) (fun k x hx => ?_)
    have hz : k < 1 := (List.getElem?_eq_some_iff.mp hx).1
    rw [show k = 0 by omega] at hx
    cases hx
    exact hn
  · intro k hk
    rw [ks_aE hq] at hk
    rcases List.mem_append.mp hk with h | h
    · exact G.2.2.2 k h
    · rw [List.mem_singleton.mp h]
      exact E.2.2.2.2.2.1 _ (by have := E.1; omega)
  · have h := E.ex (EX.aE (z := z) hq)
    have h1 : (aE η q z).2.1 - η.2.1 = 1 := by show η.2.1 + 1 - η.2.1 = 1; omega
    have h2 : (aE η q z).2.2 - η.2.2 = z := by show η.2.2 + z - η.2.2 = z; omega
    rwa [h1, h2] at h
theorem a_new (C0 : Cx ad dc D own cc nL p s m args meth c) (G : GW η.1 (ksOf η) ad dc D A s σ H locs) (E : EA ad dc A s n0 z0 η cells slots) {C : String} {T : u_T} {n ci idx : Nat} {fl : List (Nat × Nat)} (hin : ∀ w ∈ u_ws C T n, w ∈ lw_all) {ty0 : Nat → FieldType} (hty : ∀ k, k < n → parseFieldDescriptor (T k).2.2.1 = some (ty0 k)) (hc : vwCl[ci]? = some (C, T, n)) (hcl : Cond.classLink own idx C ∈ lw_all) {nf : Nat} (hnf : nf = n) (hinst : Cond.instantiable C n ∈ lw_all) (hini : Cond.initialized C ∈ lw_all)
    (hfs : ∀ j, j < n → defaultValue (ty0 j) = vp_V (fl.mapIdx (fun j f => fvOf ad (aS σ η.2.1) η.2.1 j f)) j) (hcells : cells + 1 ≤ R.cells) (hslots : slots + nf ≤ R.slots) (hdg : decode cc pc = .ok (.new idx, 3))
    (kk : ∀ H1, GW (aE η (0, ci, 0, fl) nf).1 (ksOf (aE η (0, ci, 0, fl) nf)) ad dc D A s (aS σ η.2.1) H1 locs → EA ad dc A s n0 z0 (aE η (0, ci, 0, fl) nf) (cells + 1) (slots + nf) → W p l e R s m args below meth c H1 locs (cells + 1) (slots + nf) Q (F0 m (pc + 3) ls (.ref (ad η.2.1) :: rest))) : W p l e R s m args below meth c H locs cells slots Q (F0 m pc ls rest) := by
  subst hnf
  refine W_size fun hsz => ?_
  have hs := ea_size G E hsz
  have hts := C0.2.2.2.2.1
  have hKn := C0.2.2.2.2.2.1.1 ci _ hc
  refine W.newcK C0.1 C0.2.1 C0.2.2.2.1 (hts _ hcl) (hts _ hinst) (hts _ hini) rfl hdg hcells hslots hKn.2.1 rfl fun H1 kC hkC e1 z1 o1 => ?_
  obtain ⟨G1, E1⟩ := ea_push (z := nf) (q := (0, ci, 0, fl)) G E (by show (0 : Nat) ≠ 9; decide) hs z1 o1 ⟨_, hc, by rw [← hs]; exact (u_born ty0 hts hin hKn hkC e1 hty).to hfs⟩
  rw [hs]
  exact kk H1 G1 E1
/-- a length that is no trouble -/
theorem a_newI (C0 : Cx ad dc D own cc nL p s m args meth c) (G : GW η.1 (ksOf η) ad dc D A s σ H locs) (E : EA ad dc A s n0 z0 η cells slots) {atype : ArrayType} {ty : FieldType} (t : Nat) (ht : (tysOf dc)[t]? = some (dc t, ty)) (hty : newarray.typeOf atype = ty) (hprim : ∀ cA, va_RA s cA ty → s.vm.findClass ("[" ++ ty.toString) = some cA) (hdef : defaultValue ty = .int 0) (hcb : componentBytes ty ≤ 4) (harr : Cond.arrayClass (newarray.typeOf atype) ∈ lw_all) {x : Int32} (hx : ¬ x < 0 ∧ x.toNatClampNeg ≤ 1000000) (hcells : cells + 1 ≤ R.cells) (hslots : slots + x.toNatClampNeg ≤ R.slots) (hdg : decode cc pc = .ok (.newarray atype, 2))
    (kk : ∀ H1, GW (aE η (1, t, x.toNatClampNeg, []) x.toNatClampNeg).1 (ksOf (aE η (1, t, x.toNatClampNeg, []) x.toNatClampNeg)) ad dc D A s (aS σ η.2.1) H1 locs → EA ad dc A s n0 z0 (aE η (1, t, x.toNatClampNeg, []) x.toNatClampNeg) (cells + 1) (slots + x.toNatClampNeg) → W p l e R s m args below meth c H1 locs (cells + 1) (slots + x.toNatClampNeg) Q (F0 m (pc + 2) ls (.ref (ad η.2.1) :: rest))) : W p l e R s m args below meth c H locs cells slots Q (F0 m pc ls (.int x :: rest)) := by
  subst hty
  refine W_size fun hsz => ?_
  have hs := ea_size G E hsz
  refine va_newaK C0.1 C0.2.1 (C0.2.2.2.2.1 _ harr) rfl hdg rfl hx.1 rfl ?_ hcells hslots rfl fun H1 cA e1 z1 o1 hAr hNm => ?_
  · refine Nat.le_trans (Nat.mul_le_mul hx.2 hcb) (by decide)
  · have hca : cA = dc t := Option.some.inj (hNm.symm.trans (hprim _ ((C0.2.2.2.2.2.1.2 t _ ht).2)))
    subst hca
    obtain ⟨G1, E1⟩ := ea_push (z := x.toNatClampNeg) (q := (1, t, x.toNatClampNeg, [])) G E (by show (1 : Nat) ≠ 9; decide) hs z1 o1 (by
      show H1[ad η.2.1]? = some (vp_cell (dc t) (x.toNatClampNeg, .inl (gA (aS σ η.2.1) η.2.1)))
      rw [← hs, e1, vp_cell_i, hdef]
      congr 2
      funext j
      rw [gA_aS, if_pos rfl])
    rw [hs]
    exact kk H1 G1 E1
theorem a_newQ (C0 : Cx ad dc D own cc nL p s m args meth c) (G : GW η.1 (ksOf η) ad dc D A s σ H locs) (E : EA ad dc A s n0 z0 η cells slots) {C : String} {idx : Nat} (t : Nat) (ht : (tysOf dc)[t]? = some (dc t, .object C)) (hq : Cond.classLink own idx C ∈ lw_all) (hov : va_AO C s) {x : Int32} (hx : ¬ x < 0 ∧ x.toNatClampNeg ≤ 1000000) (hcells : cells + 1 ≤ R.cells) (hslots : slots + x.toNatClampNeg ≤ R.slots) (hdg : decode cc pc = .ok (.anewarray idx, 3))
    (kk : ∀ H1, GW (aE η (2, t, x.toNatClampNeg, []) x.toNatClampNeg).1 (ksOf (aE η (2, t, x.toNatClampNeg, []) x.toNatClampNeg)) ad dc D A s (aS σ η.2.1) H1 locs → EA ad dc A s n0 z0 (aE η (2, t, x.toNatClampNeg, []) x.toNatClampNeg) (cells + 1) (slots + x.toNatClampNeg) → W p l e R s m args below meth c H1 locs (cells + 1) (slots + x.toNatClampNeg) Q (F0 m (pc + 3) ls (.ref (ad η.2.1) :: rest))) : W p l e R s m args below meth c H locs cells slots Q (F0 m pc ls (.int x :: rest)) := by
  refine W_size fun hsz => ?_
  have hs := ea_size G E hsz
  refine W.anew C0.1 C0.2.1 C0.2.2.2.1 (C0.2.2.2.2.1 _ hq) (va_AO.use hov) rfl hdg rfl hx.1 ?_ hcells hslots fun cA kA comp f1 f2 f3 f4 => ?_
  · refine Nat.le_trans (Nat.mul_le_mul hx.2 (Nat.le_refl 4)) (by decide)
  · obtain ⟨kB, comp2, g1, g2, g3, g4⟩ := (C0.2.2.2.2.2.1.2 t _ ht).2
    have hca : cA = dc t := Option.some.inj (f1.symm.trans g4)
    subst hca
    generalize hH1 : H.push ({ cls := dc t, slots := Array.replicate x.toNatClampNeg .null, vm := .none } : Cell) = H1
    have z1 : H1.size = H.size + 1 := by rw [← hH1, Array.size_push]
    have e1 : H1[H.size]? = some (arrV (dc t) x.toNatClampNeg (fun _ => .null)) := by rw [← hH1, Array.getElem?_push_size, ← arrV_new]
    have o1 : ∀ q : Nat, q < H.size → H1[q]? = H[q]? := fun q hq => by rw [← hH1, Array.getElem?_push, if_neg (Nat.ne_of_lt hq)]
    obtain ⟨G1, E1⟩ := ea_push (z := x.toNatClampNeg) (q := (2, t, x.toNatClampNeg, [])) G E (by show (2 : Nat) ≠ 9; decide) hs z1 o1 (by
      show H1[ad η.2.1]? = some (vp_cell (dc t) (x.toNatClampNeg, .inr (.inr (.inr (.inr (fun i => (gR (aS σ η.2.1) η.2.1 i).map ad))))))
      rw [← hs, e1, vp_cell_q]
      congr 2
      funext j
      rw [gR_aS, if_pos rfl]
      rfl)
    rw [hs]
    exact kk H1 G1 E1
end ABASE
