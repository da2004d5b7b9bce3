/-! the classes; rows over the store -/
abbrev vwCl : List vw_C := [(RX0, TX0, 20), (RX1, TX1, 7), (RX2, TX2, 23), (RX3, TX3, 18), (RX4, TX4, 2), (RX5, TX5, 7), (RX6, TX6, 67), (RX7, TX7, 7), (RX8, TX8, 7), (RX10, TX10, 2), (RX12, TX12, 1), (RX13, TX13, 1), (RX14, TX14, 1), (RX15, TX15, 1), (RX16, TX16, 3), (RX17, TX17, 2), (RX18, TX18, 2), (RX19, TX19, 2), (RX20, TX20, 2), (RX21, TX21, 3), (RX23, TX23, 3), (RX24, TX24, 1), (RX25, TX25, 2), (RX26, TX26, 2), (RJ2, TJ2, 3), (RJ7, TJ7, 6)]
abbrev tysOf (dc : Nat → ClassId) : List (ClassId × FieldType) := [(dc 0, .int), (dc 1, .byte), (dc 2, .boolean), (dc 3, .object "java/lang/Object"), (dc 4, .object "HotIron$State")]
/-- a word of the tables that rides along with a run, but not in the lists -/
def isRide (w : Cond) : Bool := match w with
  | .fieldLinkNest .. => true
  | .methodLinkNest .. => true
  | .castable .. => true
  | .declares .. => true
  | _ => false
abbrev yColl : MethodName := ⟨"java/util/Collection", "toArray", "()[Ljava/lang/Object;"⟩
def XN (dc : Nat → ClassId) (U : State) : Prop := (∀ w ∈ lw_tbl, isRide w = true → va_Nw w U) ∧ va_AO "java/lang/Object" U ∧ va_AO "HotIron$State" U ∧ va_Mi "[Ljava/lang/Object;" (dc 9) U ∧ va_Fw "java/util/ArrayList" yColl yJ2_toArray U
theorem XN.warm {dc : Nat → ClassId} {s U : State} (h : XN dc s) (hW : s.WarmedH U.vm) : XN dc U := by
  refine ⟨fun w hw hr => ?_, va_AO.moved hW.alike h.2.1, va_AO.moved hW.alike h.2.2.1, va_Mi.moved hW.alike h.2.2.2.1, va_Fw.moved (by decide) hW.alike h.2.2.2.2⟩
  have h1 := h.1 w hw hr
  cases w <;> first
    | (exfalso; revert hr; simp [isRide]; done)
    | exact va_Nw.warmM hW h1
    | exact va_Nw.warmF hW h1
    | exact va_Nw.warmD hW h1
    | exact va_Nw.warmC hW h1
theorem ride_on {w : Cond} (hr : isRide w = true) : w.onTables = true := by
  cases w <;> first
    | (exfalso; revert hr; simp [isRide]; done)
    | rfl
theorem XN.same {dc : Nat → ClassId} {s U : State} (h : XN dc s) (hv : s.vm = U.vm) : XN dc U := ⟨fun w hw hr => va_Nw.same (ride_on hr) hv (h.1 w hw hr), va_AO.moved (hv ▸ Vm.Alike.refl s.vm) h.2.1, va_AO.moved (hv ▸ Vm.Alike.refl s.vm) h.2.2.1, va_Mi.moved (hv ▸ Vm.Alike.refl s.vm) h.2.2.2.1, va_Fw.moved (by decide) (hv ▸ Vm.Alike.refl s.vm) h.2.2.2.2⟩
/-- what stays the same all through a method's run -/
def Cx (ad : Nat → Nat) (dc : Nat → ClassId) (D : va_G) (own : String) (cc : ByteArray) (nL : Nat) (p : Program) (s : State) (m : MethodId) (args : Array Value) (meth : Method) (c : Code) : Prop :=
  p.tables.exec = Jvm.exec ∧ c.code = cc ∧ c.maxLocals = nL ∧ s.vm.findClass own = some m.cls ∧ (∀ w ∈ lw_all, w.before args s = true) ∧ va_K D vwCl (tysOf dc) s ∧ (∀ i j, ad i = ad j → i = j) ∧ XN dc s ∧ meth.locks = false
/-- the store, held by the heap; nothing but what A names has changed since the method's start -/
def GW (sh : Nat → Sh) (ks : List Nat) (ad : Nat → Nat) (dc : Nat → ClassId) (D : va_G) (A : Nat → Prop) (s : State) (σ : St) (H : Heap) (locs : List Loc) : Prop := va_P D vwCl (wsOf ks sh ad dc σ) H ∧ va_S A s.heap H locs ∧ ks.Nodup ∧ ∀ k, k ∈ ks → A (ad k)
section GEN
variable {p : Program} {l : Launch} {e : Env} {R : Room} {s : State} {m : MethodId} {args : Array Value} {below : List Frame} {meth : Method} {c : Code} {H : Heap} {locs : List Loc} {cells slots : Nat} {Q : State → Prop}
variable {cc : ByteArray} {nL : Nat} {sh : Nat → Sh} {ks : List Nat} {ad : Nat → Nat} {dc : Nat → ClassId} {D : va_G} {A : Nat → Prop} {own : String} {σ : St} {pc : Nat} {ls : Array Slot} {rest : List Value}
theorem g_get (C0 : Cx ad dc D own cc nL p s m args meth c) (G : GW sh ks ad dc D A s σ H locs) {C : String} {T : u_T} {n ci idx : Nat} {fl : List (Nat × Nat)} (hin : ∀ w ∈ u_ws C T n, w ∈ lw_all) (hc : vwCl[ci]? = some (C, T, n)) {k : Nat} (hk : k ∈ ks) (hs : sh k = (0, ci, 0, fl)) (j : Nat) (hj : j < n) {f : Nat × Nat} (hf : fl[j]? = some f) (hq : Cond.fieldLink own idx (T j).1 (T j).2.1 (T j).2.2.1 ∈ lw_all) (hdg : decode cc pc = .ok (.getfield idx, 3))
    {v : Value} (hv : fvOf ad σ k j f = v) (kk : W p l e R s m args below meth c H locs cells slots Q (F0 m (pc + 3) ls (v :: rest))) : W p l e R s m args below meth c H locs cells slots Q (F0 m pc ls (.ref (ad k) :: rest)) := by
  subst hv
  obtain ⟨i, hi⟩ := List.getElem?_of_mem hk
  exact va_get (D := D) (ci := ci) (C := C) (T := T) (N := n) C0.1 C0.2.1 C0.2.2.2.2.1 hin C0.2.2.2.1 C0.2.2.2.2.2.1 G.1 i ((wsOf_at hi).trans (by rw [ce_o hs])) hc j hj (C0.2.2.2.2.1 _ hq) (fun _ h9 => h9) (fl_get hf) hdg kk
theorem g_getI (C0 : Cx ad dc D own cc nL p s m args meth c) (G : GW sh ks ad dc D A s σ H locs) {C : String} {T : u_T} {n ci idx : Nat} {fl : List (Nat × Nat)} (hin : ∀ w ∈ u_ws C T n, w ∈ lw_all) (hc : vwCl[ci]? = some (C, T, n)) {k : Nat} (hk : k ∈ ks) (hs : sh k = (0, ci, 0, fl)) (j : Nat) (hj : j < n) {x : Nat} (hf : fl[j]? = some (0, x)) (hq : Cond.fieldLink own idx (T j).1 (T j).2.1 (T j).2.2.1 ∈ lw_all) (hdg : decode cc pc = .ok (.getfield idx, 3))
    (kk : W p l e R s m args below meth c H locs cells slots Q (F0 m (pc + 3) ls (.int (gI σ k j) :: rest))) : W p l e R s m args below meth c H locs cells slots Q (F0 m pc ls (.ref (ad k) :: rest)) := g_get C0 G hin hc hk hs j hj hf hq hdg rfl kk
theorem g_getL (C0 : Cx ad dc D own cc nL p s m args meth c) (G : GW sh ks ad dc D A s σ H locs) {C : String} {T : u_T} {n ci idx : Nat} {fl : List (Nat × Nat)} (hin : ∀ w ∈ u_ws C T n, w ∈ lw_all) (hc : vwCl[ci]? = some (C, T, n)) {k : Nat} (hk : k ∈ ks) (hs : sh k = (0, ci, 0, fl)) (j : Nat) (hj : j < n) {x : Nat} (hf : fl[j]? = some (1, x)) (hq : Cond.fieldLink own idx (T j).1 (T j).2.1 (T j).2.2.1 ∈ lw_all) (hdg : decode cc pc = .ok (.getfield idx, 3))
    (kk : W p l e R s m args below meth c H locs cells slots Q (F0 m (pc + 3) ls (.long (gL σ k j) :: rest))) : W p l e R s m args below meth c H locs cells slots Q (F0 m pc ls (.ref (ad k) :: rest)) := g_get C0 G hin hc hk hs j hj hf hq hdg rfl kk
theorem g_getC (C0 : Cx ad dc D own cc nL p s m args meth c) (G : GW sh ks ad dc D A s σ H locs) {C : String} {T : u_T} {n ci idx : Nat} {fl : List (Nat × Nat)} (hin : ∀ w ∈ u_ws C T n, w ∈ lw_all) (hc : vwCl[ci]? = some (C, T, n)) {k : Nat} (hk : k ∈ ks) (hs : sh k = (0, ci, 0, fl)) (j : Nat) (hj : j < n) {x : Nat} (hf : fl[j]? = some (2, x)) (hq : Cond.fieldLink own idx (T j).1 (T j).2.1 (T j).2.2.1 ∈ lw_all) (hdg : decode cc pc = .ok (.getfield idx, 3))
    (kk : W p l e R s m args below meth c H locs cells slots Q (F0 m (pc + 3) ls (.ref (ad x) :: rest))) : W p l e R s m args below meth c H locs cells slots Q (F0 m pc ls (.ref (ad k) :: rest)) := g_get C0 G hin hc hk hs j hj hf hq hdg rfl kk
theorem g_put (C0 : Cx ad dc D own cc nL p s m args meth c) (G : GW sh ks ad dc D A s σ H locs) {C : String} {T : u_T} {n ci idx : Nat} {fl : List (Nat × Nat)} (hin : ∀ w ∈ u_ws C T n, w ∈ lw_all) {ty0 : Nat → FieldType} (hty : ∀ k, k < n → parseFieldDescriptor (T k).2.2.1 = some (ty0 k)) (hnm : ∀ a, a < n → ∀ b, b < n → a ≠ b → (T a).2.1 ≠ (T b).2.1) (hc : vwCl[ci]? = some (C, T, n)) {k : Nat} (hk : k ∈ ks) (hs : sh k = (0, ci, 0, fl)) (j : Nat) (hj : j < n) {f : Nat × Nat} (hf : fl[j]? = some f) (hq : Cond.fieldLink own idx (T j).1 (T j).2.1 (T j).2.2.1 ∈ lw_all) (hfin : (T j).2.2.2 = false) (hdg : decode cc pc = .ok (.putfield idx, 3))
    {v : Value} (hn : narrow (ty0 j) v = v) (hfit : fits (ty0 j) v = true) (σ' : St) (hv : fvOf ad σ' k j f = v) (ho : ∀ i g, i ≠ j → fvOf ad σ' k i g = fvOf ad σ k i g) (hoff : ∀ c, c ≠ k → ceOf ad dc σ' c (sh c) = ceOf ad dc σ c (sh c))
    (kk : ∀ H1 locs1, GW sh ks ad dc D A s σ' H1 locs1 → W p l e R s m args below meth c H1 locs1 cells slots Q (F0 m (pc + 3) ls rest)) : W p l e R s m args below meth c H locs cells slots Q (F0 m pc ls (v :: .ref (ad k) :: rest)) := by
  obtain ⟨i, hi⟩ := List.getElem?_of_mem hk
  refine va_put (D := D) (ci := ci) (v := v) (ty := ty0 j) (C := C) (T := T) (N := n) C0.1 C0.2.1 C0.2.2.2.2.1 hin ty0 hty hnm C0.2.2.2.1 C0.2.2.2.2.2.1 G.1 (wsOf_D C0.2.2.2.2.2.2.1 G.2.2.1 G.2.2.2) G.2.1 i ((wsOf_at hi).trans (by rw [ce_o hs])) hc j hj (C0.2.2.2.2.1 _ hq) (fun _ h9 => h9) hfin (hty j hj) hn hfit (by simpa using (List.getElem?_eq_some_iff.mp hf).1) hdg (fun H1 locs1 hP _ hS => kk H1 locs1 ⟨?_, hS, G.2.2⟩)
  rw [wsOf_set (σ' := σ') G.2.2.1 hi (by rw [ce_o hs, fl_set hf hv ho]) hoff] at hP
  exact hP
theorem g_putI (C0 : Cx ad dc D own cc nL p s m args meth c) (G : GW sh ks ad dc D A s σ H locs) {C : String} {T : u_T} {n ci idx : Nat} {fl : List (Nat × Nat)} (hin : ∀ w ∈ u_ws C T n, w ∈ lw_all) {ty0 : Nat → FieldType} (hty : ∀ k, k < n → parseFieldDescriptor (T k).2.2.1 = some (ty0 k)) (hnm : ∀ a, a < n → ∀ b, b < n → a ≠ b → (T a).2.1 ≠ (T b).2.1) (hc : vwCl[ci]? = some (C, T, n)) {k : Nat} (hk : k ∈ ks) (hs : sh k = (0, ci, 0, fl)) (j : Nat) (hj : j < n) {x0 : Nat} (hf : fl[j]? = some (0, x0)) (hq : Cond.fieldLink own idx (T j).1 (T j).2.1 (T j).2.2.1 ∈ lw_all) (hfin : (T j).2.2.2 = false) (hdg : decode cc pc = .ok (.putfield idx, 3))
    {x : Int32} (hn : narrow (ty0 j) (.int x) = .int x ∧ fits (ty0 j) (.int x) = true)
    (kk : ∀ σ' H1 locs1, σ' = pI σ k j x → GW sh ks ad dc D A s σ' H1 locs1 → W p l e R s m args below meth c H1 locs1 cells slots Q (F0 m (pc + 3) ls rest)) : W p l e R s m args below meth c H locs cells slots Q (F0 m pc ls (.int x :: .ref (ad k) :: rest)) := by
  refine g_put C0 G hin hty hnm hc hk hs j hj hf hq hfin hdg hn.1 hn.2 (pI σ k j x) ?_ ?_ ?_ (fun H1 locs1 G1 => kk _ H1 locs1 rfl G1)
  · show Value.int _ = _
    rw [gI_pI, if_pos ⟨rfl, rfl⟩]
  · intro i g hi
    unfold fvOf
    rw [gI_pI, if_neg (fun q => hi q.2)]
    rfl
  · intro c hc
    exact ce_off (fun k' => by rw [gI_pI, if_neg (fun q => hc q.1)]) (fun _ => rfl) (fun _ => rfl) (fun _ => rfl)
theorem g_putL (C0 : Cx ad dc D own cc nL p s m args meth c) (G : GW sh ks ad dc D A s σ H locs) {C : String} {T : u_T} {n ci idx : Nat} {fl : List (Nat × Nat)} (hin : ∀ w ∈ u_ws C T n, w ∈ lw_all) {ty0 : Nat → FieldType} (hty : ∀ k, k < n → parseFieldDescriptor (T k).2.2.1 = some (ty0 k)) (hnm : ∀ a, a < n → ∀ b, b < n → a ≠ b → (T a).2.1 ≠ (T b).2.1) (hc : vwCl[ci]? = some (C, T, n)) {k : Nat} (hk : k ∈ ks) (hs : sh k = (0, ci, 0, fl)) (j : Nat) (hj : j < n) {x0 : Nat} (hf : fl[j]? = some (1, x0)) (hq : Cond.fieldLink own idx (T j).1 (T j).2.1 (T j).2.2.1 ∈ lw_all) (hfin : (T j).2.2.2 = false) (hdg : decode cc pc = .ok (.putfield idx, 3))
    {x : Int64} (hn : narrow (ty0 j) (.long x) = .long x ∧ fits (ty0 j) (.long x) = true)
    (kk : ∀ σ' H1 locs1, σ' = pL σ k j x → GW sh ks ad dc D A s σ' H1 locs1 → W p l e R s m args below meth c H1 locs1 cells slots Q (F0 m (pc + 3) ls rest)) : W p l e R s m args below meth c H locs cells slots Q (F0 m pc ls (.long x :: .ref (ad k) :: rest)) := by
  refine g_put C0 G hin hty hnm hc hk hs j hj hf hq hfin hdg hn.1 hn.2 (pL σ k j x) ?_ ?_ ?_ (fun H1 locs1 G1 => kk _ H1 locs1 rfl G1)
  · show Value.long _ = _
    rw [gL_pL, if_pos ⟨rfl, rfl⟩]
  · intro i g hi
    unfold fvOf
    rw [gL_pL, if_neg (fun q => hi q.2)]
    rfl
  · intro c hc
    exact ce_off (fun _ => rfl) (fun k' => by rw [gL_pL, if_neg (fun q => hc q.1)]) (fun _ => rfl) (fun _ => rfl)
theorem g_iald (C0 : Cx ad dc D own cc nL p s m args meth c) (G : GW sh ks ad dc D A s σ H locs) {k n : Nat} (hk : k ∈ ks) (hs : sh k = (1, 0, n, [])) {i : Int32} (hi : vp_in i n) (hdg : decode cc pc = .ok (.iaload, 1))
    (kk : W p l e R s m args below meth c H locs cells slots Q (F0 m (pc + 1) ls (.int (gA σ k i.toNatClampNeg) :: rest))) : W p l e R s m args below meth c H locs cells slots Q (F0 m pc ls (.int i :: .ref (ad k) :: rest)) := by
  obtain ⟨i0, h0⟩ := List.getElem?_of_mem hk
  exact va_iald C0.1 C0.2.1 C0.2.2.2.2.2.1 G.1 i0 0 ((wsOf_at h0).trans (by rw [ce_a hs])) rfl hi hdg kk
theorem g_bald (C0 : Cx ad dc D own cc nL p s m args meth c) (G : GW sh ks ad dc D A s σ H locs) {k n : Nat} (hk : k ∈ ks) (hs : sh k = (1, 1, n, [])) {i : Int32} (hi : vp_in i n) (hdg : decode cc pc = .ok (.baload, 1))
    (kk : W p l e R s m args below meth c H locs cells slots Q (F0 m (pc + 1) ls (.int (gA σ k i.toNatClampNeg) :: rest))) : W p l e R s m args below meth c H locs cells slots Q (F0 m pc ls (.int i :: .ref (ad k) :: rest)) := by
  obtain ⟨i0, h0⟩ := List.getElem?_of_mem hk
  exact va_bald C0.1 C0.2.1 C0.2.2.2.2.2.1 G.1 i0 1 ((wsOf_at h0).trans (by rw [ce_a hs])) rfl hi hdg kk
theorem g_zald (C0 : Cx ad dc D own cc nL p s m args meth c) (G : GW sh ks ad dc D A s σ H locs) {k n : Nat} (hk : k ∈ ks) (hs : sh k = (1, 2, n, [])) {i : Int32} (hi : vp_in i n) (hdg : decode cc pc = .ok (.baload, 1))
    (kk : W p l e R s m args below meth c H locs cells slots Q (F0 m (pc + 1) ls (.int (gA σ k i.toNatClampNeg) :: rest))) : W p l e R s m args below meth c H locs cells slots Q (F0 m pc ls (.int i :: .ref (ad k) :: rest)) := by
  obtain ⟨i0, h0⟩ := List.getElem?_of_mem hk
  exact va_zald C0.1 C0.2.1 C0.2.2.2.2.2.1 G.1 i0 2 ((wsOf_at h0).trans (by rw [ce_a hs])) rfl hi hdg kk
theorem pA_set {k t n i i0 : Nat} {x : Int32} (hn : ks.Nodup) (hk : ks[i0]? = some k) (hs : sh k = (1, t, n, [])) : (wsOf ks sh ad dc σ).set i0 (ad k, .inl (dc t, n, .inl (upd (gA σ k) i x))) = wsOf ks sh ad dc (pA σ k i x) := by
  refine wsOf_set hn hk ?_ ?_
  · rw [ce_a hs]
    have h : gA (pA σ k i x) k = upd (gA σ k) i x := by
      funext j
      rw [gA_pA]
      unfold upd
      by_cases q : j = i
      · rw [if_pos q, if_pos ⟨rfl, q⟩]
      · rw [if_neg q, if_neg (fun z => q z.2)]
    rw [h]
  · intro c hc
    exact ce_off (fun _ => rfl) (fun _ => rfl) (fun k' => by rw [gA_pA, if_neg (fun q => hc q.1)]) (fun _ => rfl)
theorem g_iast (C0 : Cx ad dc D own cc nL p s m args meth c) (G : GW sh ks ad dc D A s σ H locs) {k n : Nat} (hk : k ∈ ks) (hs : sh k = (1, 0, n, [])) {i x : Int32} (hi : vp_in i n) (hdg : decode cc pc = .ok (.iastore, 1))
    (kk : ∀ σ' H1 locs1, σ' = pA σ k i.toNatClampNeg x → GW sh ks ad dc D A s σ' H1 locs1 → W p l e R s m args below meth c H1 locs1 cells slots Q (F0 m (pc + 1) ls rest)) : W p l e R s m args below meth c H locs cells slots Q (F0 m pc ls (.int x :: .int i :: .ref (ad k) :: rest)) := by
  obtain ⟨i0, h0⟩ := List.getElem?_of_mem hk
  refine va_iast C0.1 C0.2.1 C0.2.2.2.2.2.1 G.1 (wsOf_D C0.2.2.2.2.2.2.1 G.2.2.1 G.2.2.2) G.2.1 i0 0 ((wsOf_at h0).trans (by rw [ce_a hs])) rfl hi hdg (fun H1 locs1 hP _ hS => kk _ H1 locs1 rfl ⟨?_, hS, G.2.2⟩)
  exact (pA_set G.2.2.1 h0 hs) ▸ hP
theorem g_bast (C0 : Cx ad dc D own cc nL p s m args meth c) (G : GW sh ks ad dc D A s σ H locs) {k n : Nat} (hk : k ∈ ks) (hs : sh k = (1, 1, n, [])) {i x : Int32} (hi : vp_in i n) (hdg : decode cc pc = .ok (.bastore, 1))
    (kk : ∀ σ' H1 locs1, σ' = pA σ k i.toNatClampNeg (vp_nar .byte x) → GW sh ks ad dc D A s σ' H1 locs1 → W p l e R s m args below meth c H1 locs1 cells slots Q (F0 m (pc + 1) ls rest)) : W p l e R s m args below meth c H locs cells slots Q (F0 m pc ls (.int x :: .int i :: .ref (ad k) :: rest)) := by
  obtain ⟨i0, h0⟩ := List.getElem?_of_mem hk
  refine va_bast C0.1 C0.2.1 C0.2.2.2.2.2.1 G.1 (wsOf_D C0.2.2.2.2.2.2.1 G.2.2.1 G.2.2.2) G.2.1 i0 1 ((wsOf_at h0).trans (by rw [ce_a hs])) rfl hi hdg (fun H1 locs1 hP _ hS => kk _ H1 locs1 rfl ⟨?_, hS, G.2.2⟩)
  exact (pA_set G.2.2.1 h0 hs) ▸ hP
theorem g_zast (C0 : Cx ad dc D own cc nL p s m args meth c) (G : GW sh ks ad dc D A s σ H locs) {k n : Nat} (hk : k ∈ ks) (hs : sh k = (1, 2, n, [])) {i x : Int32} (hi : vp_in i n) (hdg : decode cc pc = .ok (.bastore, 1))
    (kk : ∀ σ' H1 locs1, σ' = pA σ k i.toNatClampNeg (vp_nar .boolean x) → GW sh ks ad dc D A s σ' H1 locs1 → W p l e R s m args below meth c H1 locs1 cells slots Q (F0 m (pc + 1) ls rest)) : W p l e R s m args below meth c H locs cells slots Q (F0 m pc ls (.int x :: .int i :: .ref (ad k) :: rest)) := by
  obtain ⟨i0, h0⟩ := List.getElem?_of_mem hk
  refine va_zast C0.1 C0.2.1 C0.2.2.2.2.2.1 G.1 (wsOf_D C0.2.2.2.2.2.2.1 G.2.2.1 G.2.2.2) G.2.1 i0 2 ((wsOf_at h0).trans (by rw [ce_a hs])) rfl hi hdg (fun H1 locs1 hP _ hS => kk _ H1 locs1 rfl ⟨?_, hS, G.2.2⟩)
  exact (pA_set G.2.2.1 h0 hs) ▸ hP
end GEN
