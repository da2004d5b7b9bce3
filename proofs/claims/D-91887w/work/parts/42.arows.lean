/-! stores into fields: final ones in a constructor, references, fields of a superclass; the ends of methods that make cells -/
set_option maxRecDepth 100000
section AROW
variable {p : Program} {l : Launch} {e : Env} {R : Room} {s : State} {m : MethodId} {args : Array Value} {below : List Frame} {meth : Method} {c : Code} {H : Heap} {locs : List Loc} {cells slots : Nat} {Q : State → Prop}
variable {cc : ByteArray} {nL : Nat} {sh : Nat → Sh} {ks : List Nat} {ad : Nat → Nat} {dc : Nat → ClassId} {D : va_G} {A : Nat → Prop} {own : String} {σ σ' : St} {pc : Nat} {ls : Array Slot} {rest : List Value}
theorem g_putF (C0 : Cx ad dc D own cc nL p s m args meth c) (G : GW sh ks ad dc D A s σ H locs) {C : String} {T : u_T} {n ci idx : Nat} {fl : List (Nat × Nat)} (hin : ∀ w ∈ u_ws C T n, w ∈ lw_all) {ty0 : Nat → FieldType} (hty : ∀ k, k < n → parseFieldDescriptor (T k).2.2.1 = some (ty0 k)) (hnm : ∀ a, a < n → ∀ b, b < n → a ≠ b → (T a).2.1 ≠ (T b).2.1) (hc : vwCl[ci]? = some (C, T, n)) {k : Nat} (hk : k ∈ ks) (hs : sh k = (0, ci, 0, fl)) (j : Nat) (hj : j < n) {f : Nat × Nat} (hf : fl[j]? = some f) (hq : Cond.fieldLink own idx (T j).1 (T j).2.1 (T j).2.2.1 ∈ lw_all) (hfin : (T j).2.2.2 = true) (hin2 : meth.name = "<init>") (hdecl : (T j).1 = own) (hdg : decode cc pc = .ok (.putfield idx, 3))
    {v : Value} (hn : narrow (ty0 j) v = v) (hfit : fits (ty0 j) v = true) (σ' : St) (hv : fvOf ad σ' k j f = v) (ho : ∀ i g, i ≠ j → fvOf ad σ' k i g = fvOf ad σ k i g) (hoff : ∀ c, c ≠ k → ceOf ad dc σ' c (sh c) = ceOf ad dc σ c (sh c))
    (kk : ∀ H1 locs1, GW sh ks ad dc D A s σ' H1 locs1 → W p l e R s m args below meth c H1 locs1 cells slots Q (F0 m (pc + 3) ls rest)) : W p l e R s m args below meth c H locs cells slots Q (F0 m pc ls (v :: .ref (ad k) :: rest)) := by
  obtain ⟨i, hi⟩ := List.getElem?_of_mem hk
  refine va_putF (D := D) (ci := ci) (v := v) (ty := ty0 j) (C := C) (T := T) (N := n) C0.1 C0.2.1 C0.2.2.2.2.1 hin ty0 hty hnm C0.2.2.2.1 C0.2.2.2.2.2.1 G.1 (wsOf_D C0.2.2.2.2.2.2.1 G.2.2.1 G.2.2.2) G.2.1 i ((wsOf_at hi).trans (by rw [ce_o hs])) hc j hj (C0.2.2.2.2.1 _ hq) (fun _ h9 => h9) hfin hin2 hdecl (hty j hj) hn hfit (by simpa using (List.getElem?_eq_some_iff.mp hf).1) hdg (fun H1 locs1 hP _ hS => kk H1 locs1 ⟨?_, hS, G.2.2⟩)
  rw [wsOf_set (σ' := σ') G.2.2.1 hi (by rw [ce_o hs, fl_set hf hv ho]) hoff] at hP
  exact hP
theorem g_putS (C0 : Cx ad dc D own cc nL p s m args meth c) (G : GW sh ks ad dc D A s σ H locs) {C : String} {T : u_T} {n ci idx : Nat} {fl : List (Nat × Nat)} (hin : ∀ w ∈ u_ws C T n, w ∈ lw_all) {ty0 : Nat → FieldType} (hty : ∀ k, k < n → parseFieldDescriptor (T k).2.2.1 = some (ty0 k)) (hnm : ∀ a, a < n → ∀ b, b < n → a ≠ b → (T a).2.1 ≠ (T b).2.1) (hc : vwCl[ci]? = some (C, T, n)) {k : Nat} (hk : k ∈ ks) (hs : sh k = (0, ci, 0, fl)) (j : Nat) (hj : j < n) {f : Nat × Nat} (hf : fl[j]? = some f) {ref : String} (hq : Cond.fieldLink own idx ref (T j).2.1 (T j).2.2.1 ∈ lw_all) (hsf : Cond.sameField ref (T j).1 (T j).2.1 (T j).2.2.1 ∈ lw_all) (hfin : (T j).2.2.2 = false) (hdg : decode cc pc = .ok (.putfield idx, 3))
    {v : Value} (hn : narrow (ty0 j) v = v) (hfit : fits (ty0 j) v = true) (σ' : St) (hv : fvOf ad σ' k j f = v) (ho : ∀ i g, i ≠ j → fvOf ad σ' k i g = fvOf ad σ k i g) (hoff : ∀ c, c ≠ k → ceOf ad dc σ' c (sh c) = ceOf ad dc σ c (sh c))
    (kk : ∀ H1 locs1, GW sh ks ad dc D A s σ' H1 locs1 → W p l e R s m args below meth c H1 locs1 cells slots Q (F0 m (pc + 3) ls rest)) : W p l e R s m args below meth c H locs cells slots Q (F0 m pc ls (v :: .ref (ad k) :: rest)) := by
  obtain ⟨i, hi⟩ := List.getElem?_of_mem hk
  refine va_put (D := D) (ci := ci) (v := v) (ty := ty0 j) (C := C) (T := T) (N := n) C0.1 C0.2.1 C0.2.2.2.2.1 hin ty0 hty hnm C0.2.2.2.1 C0.2.2.2.2.2.1 G.1 (wsOf_D C0.2.2.2.2.2.2.1 G.2.2.1 G.2.2.2) G.2.1 i ((wsOf_at hi).trans (by rw [ce_o hs])) hc j hj (C0.2.2.2.2.1 _ hq) (fun x h9 => u_same (C0.2.2.2.2.1 _ hsf) x h9) hfin (hty j hj) hn hfit (by simpa using (List.getElem?_eq_some_iff.mp hf).1) hdg (fun H1 locs1 hP _ hS => kk H1 locs1 ⟨?_, hS, G.2.2⟩)
  rw [wsOf_set (σ' := σ') G.2.2.1 hi (by rw [ce_o hs, fl_set hf hv ho]) hoff] at hP
  exact hP
theorem g_putFI (C0 : Cx ad dc D own cc nL p s m args meth c) (G : GW sh ks ad dc D A s σ H locs) {C : String} {T : u_T} {n ci idx : Nat} {fl : List (Nat × Nat)} (hin : ∀ w ∈ u_ws C T n, w ∈ lw_all) {ty0 : Nat → FieldType} (hty : ∀ k, k < n → parseFieldDescriptor (T k).2.2.1 = some (ty0 k)) (hnm : ∀ a, a < n → ∀ b, b < n → a ≠ b → (T a).2.1 ≠ (T b).2.1) (hc : vwCl[ci]? = some (C, T, n)) {k : Nat} (hk : k ∈ ks) (hs : sh k = (0, ci, 0, fl)) (j : Nat) (hj : j < n) {x0 : Nat} (hf : fl[j]? = some (0, x0)) (hq : Cond.fieldLink own idx (T j).1 (T j).2.1 (T j).2.2.1 ∈ lw_all) (hfin : (T j).2.2.2 = true) (hin2 : meth.name = "<init>") (hdecl : (T j).1 = own) (hdg : decode cc pc = .ok (.putfield idx, 3))
    {x : Int32} (hn : narrow (ty0 j) (.int x) = .int x ∧ fits (ty0 j) (.int x) = true)
    (kk : ∀ σ' H1 locs1, σ' = pI σ k j x → GW sh ks ad dc D A s σ' H1 locs1 → W p l e R s m args below meth c H1 locs1 cells slots Q (F0 m (pc + 3) ls rest)) : W p l e R s m args below meth c H locs cells slots Q (F0 m pc ls (.int x :: .ref (ad k) :: rest)) := by
  refine g_putF C0 G hin hty hnm hc hk hs j hj hf hq hfin hin2 hdecl hdg hn.1 hn.2 (pI σ k j x) ?_ ?_ ?_ (fun H1 locs1 G1 => kk _ H1 locs1 rfl G1)
  · show Value.int _ = _
    rw [gI_pI, if_pos ⟨rfl, rfl⟩]
  · intro i g hi
    unfold fvOf
    rw [gI_pI, if_neg (fun q => hi q.2)]
    rfl
  · intro c hc
    exact ce_off (fun k' => by rw [gI_pI, if_neg (fun q => hc q.1)]) (fun _ => rfl) (fun _ => rfl) (fun _ => rfl)
theorem g_putSI (C0 : Cx ad dc D own cc nL p s m args meth c) (G : GW sh ks ad dc D A s σ H locs) {C : String} {T : u_T} {n ci idx : Nat} {fl : List (Nat × Nat)} (hin : ∀ w ∈ u_ws C T n, w ∈ lw_all) {ty0 : Nat → FieldType} (hty : ∀ k, k < n → parseFieldDescriptor (T k).2.2.1 = some (ty0 k)) (hnm : ∀ a, a < n → ∀ b, b < n → a ≠ b → (T a).2.1 ≠ (T b).2.1) (hc : vwCl[ci]? = some (C, T, n)) {k : Nat} (hk : k ∈ ks) (hs : sh k = (0, ci, 0, fl)) (j : Nat) (hj : j < n) {x0 : Nat} (hf : fl[j]? = some (0, x0)) {ref : String} (hq : Cond.fieldLink own idx ref (T j).2.1 (T j).2.2.1 ∈ lw_all) (hsf : Cond.sameField ref (T j).1 (T j).2.1 (T j).2.2.1 ∈ lw_all) (hfin : (T j).2.2.2 = false) (hdg : decode cc pc = .ok (.putfield idx, 3))
    {x : Int32} (hn : narrow (ty0 j) (.int x) = .int x ∧ fits (ty0 j) (.int x) = true)
    (kk : ∀ σ' H1 locs1, σ' = pI σ k j x → GW sh ks ad dc D A s σ' H1 locs1 → W p l e R s m args below meth c H1 locs1 cells slots Q (F0 m (pc + 3) ls rest)) : W p l e R s m args below meth c H locs cells slots Q (F0 m pc ls (.int x :: .ref (ad k) :: rest)) := by
  refine g_putS C0 G hin hty hnm hc hk hs j hj hf hq hsf hfin hdg hn.1 hn.2 (pI σ k j x) ?_ ?_ ?_ (fun H1 locs1 G1 => kk _ H1 locs1 rfl G1)
  · show Value.int _ = _
    rw [gI_pI, if_pos ⟨rfl, rfl⟩]
  · intro i g hi
    unfold fvOf
    rw [gI_pI, if_neg (fun q => hi q.2)]
    rfl
  · intro c hc
    exact ce_off (fun k' => by rw [gI_pI, if_neg (fun q => hc q.1)]) (fun _ => rfl) (fun _ => rfl) (fun _ => rfl)
theorem g_putR (C0 : Cx ad dc D own cc nL p s m args meth c) (G : GW sh ks ad dc D A s σ H locs) {C : String} {T : u_T} {n ci idx : Nat} {fl : List (Nat × Nat)} (hin : ∀ w ∈ u_ws C T n, w ∈ lw_all) {ty0 : Nat → FieldType} (hty : ∀ k, k < n → parseFieldDescriptor (T k).2.2.1 = some (ty0 k)) (hnm : ∀ a, a < n → ∀ b, b < n → a ≠ b → (T a).2.1 ≠ (T b).2.1) (hc : vwCl[ci]? = some (C, T, n)) {k : Nat} (hk : k ∈ ks) (hs : sh k = (0, ci, 0, fl)) (j : Nat) (hj : j < n) {x0 : Nat} (hf : fl[j]? = some (3, x0)) (hq : Cond.fieldLink own idx (T j).1 (T j).2.1 (T j).2.2.1 ∈ lw_all) (hfin : (T j).2.2.2 = false) (hdg : decode cc pc = .ok (.putfield idx, 3))
    {x : Option Nat} {v : Value} (hv : va_rf (x.map ad) = v) (hn : narrow (ty0 j) v = v ∧ fits (ty0 j) v = true)
    (kk : ∀ σ' H1 locs1, σ' = pR σ k j x → GW sh ks ad dc D A s σ' H1 locs1 → W p l e R s m args below meth c H1 locs1 cells slots Q (F0 m (pc + 3) ls rest)) : W p l e R s m args below meth c H locs cells slots Q (F0 m pc ls (v :: .ref (ad k) :: rest)) := by
  refine g_put C0 G hin hty hnm hc hk hs j hj hf hq hfin hdg hn.1 hn.2 (pR σ k j x) ?_ ?_ ?_ (fun H1 locs1 G1 => kk _ H1 locs1 rfl G1)
  · show va_rf ((gR (pR σ k j x) k j).map ad) = _
    rw [gR_pR, if_pos ⟨rfl, rfl⟩]
    exact hv
  · intro i g hi
    unfold fvOf
    rw [gR_pR, if_neg (fun q => hi q.2)]
    rfl
  · intro c hc
    exact ce_off (fun _ => rfl) (fun _ => rfl) (fun _ => rfl) (fun k' => by rw [gR_pR, if_neg (fun q => hc q.1)])
theorem g_putFR (C0 : Cx ad dc D own cc nL p s m args meth c) (G : GW sh ks ad dc D A s σ H locs) {C : String} {T : u_T} {n ci idx : Nat} {fl : List (Nat × Nat)} (hin : ∀ w ∈ u_ws C T n, w ∈ lw_all) {ty0 : Nat → FieldType} (hty : ∀ k, k < n → parseFieldDescriptor (T k).2.2.1 = some (ty0 k)) (hnm : ∀ a, a < n → ∀ b, b < n → a ≠ b → (T a).2.1 ≠ (T b).2.1) (hc : vwCl[ci]? = some (C, T, n)) {k : Nat} (hk : k ∈ ks) (hs : sh k = (0, ci, 0, fl)) (j : Nat) (hj : j < n) {x0 : Nat} (hf : fl[j]? = some (3, x0)) (hq : Cond.fieldLink own idx (T j).1 (T j).2.1 (T j).2.2.1 ∈ lw_all) (hfin : (T j).2.2.2 = true) (hin2 : meth.name = "<init>") (hdecl : (T j).1 = own) (hdg : decode cc pc = .ok (.putfield idx, 3))
    {x : Option Nat} {v : Value} (hv : va_rf (x.map ad) = v) (hn : narrow (ty0 j) v = v ∧ fits (ty0 j) v = true)
    (kk : ∀ σ' H1 locs1, σ' = pR σ k j x → GW sh ks ad dc D A s σ' H1 locs1 → W p l e R s m args below meth c H1 locs1 cells slots Q (F0 m (pc + 3) ls rest)) : W p l e R s m args below meth c H locs cells slots Q (F0 m pc ls (v :: .ref (ad k) :: rest)) := by
  refine g_putF C0 G hin hty hnm hc hk hs j hj hf hq hfin hin2 hdecl hdg hn.1 hn.2 (pR σ k j x) ?_ ?_ ?_ (fun H1 locs1 G1 => kk _ H1 locs1 rfl G1)
  · show va_rf ((gR (pR σ k j x) k j).map ad) = _
    rw [gR_pR, if_pos ⟨rfl, rfl⟩]
    exact hv
  · intro i g hi
    unfold fvOf
    rw [gR_pR, if_neg (fun q => hi q.2)]
    rfl
  · intro c hc
    exact ce_off (fun _ => rfl) (fun _ => rfl) (fun _ => rfl) (fun k' => by rw [gR_pR, if_neg (fun q => hc q.1)])
theorem a_obj (C0 : Cx ad dc D own cc nL p s m args meth c) {lv : List (Nat × Value)} (hl : lv_has ls nL lv) {a idx : Nat} (hq : Cond.methodLink own idx Lib.objectInit ∈ lw_all) (hq1 : Cond.instanceMethod Lib.objectInit ∈ lw_all) (hq2 : Cond.code Lib.objectInit ⟨#[0xb1]⟩ 1 none ∈ lw_all) (hf : 1 ≤ R.frames) (hlo : 20 ≤ R.locals) (hroom : (rest.map fun v => v.category).sum ≤ 8) (hdg : decode cc pc = .ok (.invokespecial idx, 3))
    (kk : W p l e R s m args below meth c H locs cells slots Q (F0 m (pc + 3) ls rest)) : W p l e R s m args below meth c H locs cells slots Q (F0 m pc ls (.ref a :: rest)) := by
  refine W.objInit C0.1 C0.2.1 C0.2.2.2.1 (C0.2.2.2.2.1 _ hq) (C0.2.2.2.2.1 _ hq1) (C0.2.2.2.2.1 _ hq2) rfl (by rw [C0.2.2.1]; exact hl.1) rfl hdg hf ?_ kk
  have h : 2 * (F0 m pc ls (.ref a :: rest)).monitorRoom + (rest.map fun v => v.category).sum ≤ 8 := lv_room hroom
  omega
/-- an object into an array of objects -/
theorem g_aast (C0 : Cx ad dc D own cc nL p s m args meth c) (G : GW sh ks ad dc D A s σ H locs) {k n : Nat} (hk : k ∈ ks) (hs : sh k = (2, 3, n, [])) {i : Int32} (hi : vp_in i n) {a ci : Nat} {fl : List (Nat × Nat)} {r : vw_C} (ha : a ∈ ks) (hsa : sh a = (0, ci, 0, fl)) (hc : vwCl[ci]? = some r) (hca : Cond.castable r.1 "java/lang/Object" ∈ lw_tbl) (hdg : decode cc pc = .ok (.aastore, 1))
    (kk : ∀ σ' H1 locs1, σ' = pR σ k i.toNatClampNeg (some a) → GW sh ks ad dc D A s σ' H1 locs1 → W p l e R s m args below meth c H1 locs1 cells slots Q (F0 m (pc + 1) ls rest)) : W p l e R s m args below meth c H locs cells slots Q (F0 m pc ls (.ref (ad a) :: .int i :: .ref (ad k) :: rest)) := by
  obtain ⟨i0, h0⟩ := List.getElem?_of_mem hk
  obtain ⟨i1, h1⟩ := List.getElem?_of_mem ha
  refine va_astqO (E := "java/lang/Object") C0.1 C0.2.1 C0.2.2.2.2.2.1 G.1 (wsOf_D C0.2.2.2.2.2.2.1 G.2.2.1 G.2.2.2) G.2.1 i0 3 i1 ci ((wsOf_at h0).trans (by rw [ce_r hs])) rfl (xn_of C0.2.2.2.2.2.2.2.1 hca rfl) ((wsOf_at h1).trans (by rw [ce_o hsa])) hc hi hdg (fun H1 locs1 hP _ hS => kk _ H1 locs1 rfl ⟨?_, hS, G.2.2⟩)
  rw [wsOf_set (σ' := pR σ k i.toNatClampNeg (some a)) G.2.2.1 h0 ?_ ?_] at hP
  · exact hP
  · rw [ce_r hs]
    congr 7
    funext j
    rw [gR_pR]
    unfold va_up
    by_cases q : j = i.toNatClampNeg
    · rw [if_pos q, if_pos ⟨rfl, q⟩]; rfl
    · rw [if_neg q, if_neg (fun z => q z.2)]
  · intro c hc
    exact ce_off (fun _ => rfl) (fun _ => rfl) (fun _ => rfl) (fun k' => by rw [gR_pR, if_neg (fun q => hc q.1)])
end AROW
def KrAV (p : Program) (l : Launch) (e : Env) (R : Room) (s : State) (m : MethodId) (args : Array Value) (below : List Frame) (meth : Method) (c : Code) (cc : ByteArray) (Q : State → Prop) (Gf : Heap → List Loc → Prop) (mc ms : Nat) : Prop := ∀ (pc : Nat) (H : Heap) (locs : List Loc) (ls : Array Slot), decode cc pc = .ok (.return_, 1) → Gf H locs → W p l e R s m args below meth c H locs mc ms Q (F0 m pc ls [])
def KrAI (p : Program) (l : Launch) (e : Env) (R : Room) (s : State) (m : MethodId) (args : Array Value) (below : List Frame) (meth : Method) (c : Code) (cc : ByteArray) (Q : State → Prop) (Gf : Heap → List Loc → Prop) (mc ms : Nat) (r : Int32) : Prop := ∀ (pc : Nat) (H : Heap) (locs : List Loc) (ls : Array Slot), decode cc pc = .ok (.ireturn, 1) → Gf H locs → W p l e R s m args below meth c H locs mc ms Q (F0 m pc ls [.int r])
def KrAZ (p : Program) (l : Launch) (e : Env) (R : Room) (s : State) (m : MethodId) (args : Array Value) (below : List Frame) (meth : Method) (c : Code) (cc : ByteArray) (Q : State → Prop) (Gf : Heap → List Loc → Prop) (mc ms : Nat) (r : Int32) : Prop := ∀ (pc : Nat) (H : Heap) (locs : List Loc) (ls : Array Slot), decode cc pc = .ok (.ireturn, 1) → narrow .boolean (.int r) = .int r → Gf H locs → W p l e R s m args below meth c H locs mc ms Q (F0 m pc ls [.int r])
def KrAR (p : Program) (l : Launch) (e : Env) (R : Room) (s : State) (m : MethodId) (args : Array Value) (below : List Frame) (meth : Method) (c : Code) (cc : ByteArray) (Q : State → Prop) (Gf : Heap → List Loc → Prop) (mc ms : Nat) (r : Nat) : Prop := ∀ (pc : Nat) (H : Heap) (locs : List Loc) (ls : Array Slot), decode cc pc = .ok (.areturn, 1) → Gf H locs → W p l e R s m args below meth c H locs mc ms Q (F0 m pc ls [.ref r])
section AMET
variable {p : Program} {l : Launch} {e : Env} {R : Room} {s : State} {m : MethodId} {args : Array Value} {below : List Frame} {meth : Method} {c : Code} {H : Heap} {locs : List Loc} {cells slots : Nat} {Q : State → Prop}
variable {cc : ByteArray} {nL : Nat} {sh : Nat → Sh} {ks : List Nat} {ad : Nat → Nat} {dc : Nat → ClassId} {D : va_G} {A : Nat → Prop} {own : String} {σ σ' : St} {η η' : Eta} {f lo : Nat} {pc : Nat} {ls : Array Slot} {rest st0 : List Value}
variable {y : MethodName} {bytes : ByteArray} {maxL : Nat} {ret : Option FieldType} {rm : Room} {idx : Nat} {As : List Value} {lv : List (Nat × Value)}
theorem a_metV {av : List Value} (hy : plainName y.cls = true) (hyc : y.cls = own) (hi : ∀ i j, ad i = ad j → i = j) (hA : ∀ k, k ∈ ksOf η → A (ad k)) (hlen : (lg_sl av).length ≤ nL)
    (body : ∀ (p : Program) (e : Env) (s : State) (m : MethodId) (below : List Frame) (meth : Method) (c : Code) (Q : State → Prop), Cx ad dc D own cc nL p s m av.toArray meth c → meth.name = y.name → KrAV p l e (RA f lo (η'.2.1 - η.2.1) (η'.2.2 - η.2.2)) s m av.toArray below meth c cc Q (GW η'.1 (ksOf η') ad dc D A s σ') (η'.2.1 - η.2.1) (η'.2.2 - η.2.2) → EA ad dc A s η.2.1 η.2.2 η 0 0 → ∀ ls, lv_has ls nL (lv_args 0 av) → GW η.1 (ksOf η) ad dc D A s σ s.heap [] → W p l e (RA f lo (η'.2.1 - η.2.1) (η'.2.2 - η.2.2)) s m av.toArray below meth c s.heap [] 0 0 Q (F0 m 0 ls [])) :
    aMet l ad dc D A y cc nL none f lo σ η η' av (aQv ad dc D A σ' η') := by
  refine Met.ofW (cc := cc) (maxL := nL) (ret := none) hy rfl ?_
  intro p e s m args below meth c s₁ B hml hv
  obtain ⟨rfl, hP, hK, hN, hE⟩ := hv
  have hts := atoms_spec (ws := ws_ y cc nL none) B.pre
  rw [lg_entry_eq]
  exact body p e s m below meth c _ ⟨B.exec, B.bytes, hml, hyc ▸ findClass_of_methodNamed B.named, fun w h => hts w (List.mem_cons_of_mem _ h), hK, hi, hN, B.notSynchronized⟩ (name_of_methodNamed B.named B.method).1 (fun pc H locs ls hd G => W.vret B.exec B.bytes B.returns (fun t ht hW => ⟨⟨(), rfl, trivial, by show va_P _ _ _ t.heap; rw [ht]; exact G.1⟩, G.2.1.F ht⟩) G.2.1.2.2 hd) hE _ (lv_entry av hlen) ⟨hP, va_S.rf, ks_nd _, hA⟩
theorem a_metI {av : List Value} {r0 : Int32} (hy : plainName y.cls = true) (hyc : y.cls = own) (hi : ∀ i j, ad i = ad j → i = j) (hA : ∀ k, k ∈ ksOf η → A (ad k)) (hlen : (lg_sl av).length ≤ nL)
    (body : ∀ (p : Program) (e : Env) (s : State) (m : MethodId) (below : List Frame) (meth : Method) (c : Code) (Q : State → Prop), Cx ad dc D own cc nL p s m av.toArray meth c → meth.name = y.name → KrAI p l e (RA f lo (η'.2.1 - η.2.1) (η'.2.2 - η.2.2)) s m av.toArray below meth c cc Q (GW η'.1 (ksOf η') ad dc D A s σ') (η'.2.1 - η.2.1) (η'.2.2 - η.2.2) r0 → EA ad dc A s η.2.1 η.2.2 η 0 0 → ∀ ls, lv_has ls nL (lv_args 0 av) → GW η.1 (ksOf η) ad dc D A s σ s.heap [] → W p l e (RA f lo (η'.2.1 - η.2.1) (η'.2.2 - η.2.2)) s m av.toArray below meth c s.heap [] 0 0 Q (F0 m 0 ls [])) :
    aMet l ad dc D A y cc nL (some .int) f lo σ η η' av (aQi ad dc D A r0 σ' η') := by
  refine Met.ofW (cc := cc) (maxL := nL) (ret := (some .int)) hy rfl ?_
  intro p e s m args below meth c s₁ B hml hv
  obtain ⟨rfl, hP, hK, hN, hE⟩ := hv
  have hts := atoms_spec (ws := ws_ y cc nL (some .int)) B.pre
  rw [lg_entry_eq]
  exact body p e s m below meth c _ ⟨B.exec, B.bytes, hml, hyc ▸ findClass_of_methodNamed B.named, fun w h => hts w (List.mem_cons_of_mem _ h), hK, hi, hN, B.notSynchronized⟩ (name_of_methodNamed B.named B.method).1 (fun pc H locs ls hd G => W.iret B.exec B.bytes B.returns (fun t ht hW => ⟨⟨r0, (), rfl, rfl, by show va_P _ _ _ t.heap; rw [ht]; exact G.1⟩, G.2.1.F ht⟩) G.2.1.2.2 hd) hE _ (lv_entry av hlen) ⟨hP, va_S.rf, ks_nd _, hA⟩
theorem a_metZ {av : List Value} {r0 : Int32} (hy : plainName y.cls = true) (hyc : y.cls = own) (hi : ∀ i j, ad i = ad j → i = j) (hA : ∀ k, k ∈ ksOf η → A (ad k)) (hlen : (lg_sl av).length ≤ nL)
    (body : ∀ (p : Program) (e : Env) (s : State) (m : MethodId) (below : List Frame) (meth : Method) (c : Code) (Q : State → Prop), Cx ad dc D own cc nL p s m av.toArray meth c → meth.name = y.name → KrAZ p l e (RA f lo (η'.2.1 - η.2.1) (η'.2.2 - η.2.2)) s m av.toArray below meth c cc Q (GW η'.1 (ksOf η') ad dc D A s σ') (η'.2.1 - η.2.1) (η'.2.2 - η.2.2) r0 → EA ad dc A s η.2.1 η.2.2 η 0 0 → ∀ ls, lv_has ls nL (lv_args 0 av) → GW η.1 (ksOf η) ad dc D A s σ s.heap [] → W p l e (RA f lo (η'.2.1 - η.2.1) (η'.2.2 - η.2.2)) s m av.toArray below meth c s.heap [] 0 0 Q (F0 m 0 ls [])) :
    aMet l ad dc D A y cc nL (some .boolean) f lo σ η η' av (aQi ad dc D A r0 σ' η') := by
  refine Met.ofW (cc := cc) (maxL := nL) (ret := (some .boolean)) hy rfl ?_
  intro p e s m args below meth c s₁ B hml hv
  obtain ⟨rfl, hP, hK, hN, hE⟩ := hv
  have hts := atoms_spec (ws := ws_ y cc nL (some .boolean)) B.pre
  rw [lg_entry_eq]
  exact body p e s m below meth c _ ⟨B.exec, B.bytes, hml, hyc ▸ findClass_of_methodNamed B.named, fun w h => hts w (List.mem_cons_of_mem _ h), hK, hi, hN, B.notSynchronized⟩ (name_of_methodNamed B.named B.method).1 (fun pc H locs ls hd hn G => W.zret B.exec B.bytes B.returns hn (fun t ht hW => ⟨⟨r0, (), rfl, rfl, by show va_P _ _ _ t.heap; rw [ht]; exact G.1⟩, G.2.1.F ht⟩) G.2.1.2.2 hd) hE _ (lv_entry av hlen) ⟨hP, va_S.rf, ks_nd _, hA⟩
theorem a_metR {av : List Value} {r0 : Nat} {rt : FieldType} (hrt : (∃ n, rt = .object n) ∨ ∃ t, rt = .array t) (hy : plainName y.cls = true) (hyc : y.cls = own) (hi : ∀ i j, ad i = ad j → i = j) (hA : ∀ k, k ∈ ksOf η → A (ad k)) (hlen : (lg_sl av).length ≤ nL)
    (body : ∀ (p : Program) (e : Env) (s : State) (m : MethodId) (below : List Frame) (meth : Method) (c : Code) (Q : State → Prop), Cx ad dc D own cc nL p s m av.toArray meth c → meth.name = y.name → KrAR p l e (RA f lo (η'.2.1 - η.2.1) (η'.2.2 - η.2.2)) s m av.toArray below meth c cc Q (GW η'.1 (ksOf η') ad dc D A s σ') (η'.2.1 - η.2.1) (η'.2.2 - η.2.2) (ad r0) → EA ad dc A s η.2.1 η.2.2 η 0 0 → ∀ ls, lv_has ls nL (lv_args 0 av) → GW η.1 (ksOf η) ad dc D A s σ s.heap [] → W p l e (RA f lo (η'.2.1 - η.2.1) (η'.2.2 - η.2.2)) s m av.toArray below meth c s.heap [] 0 0 Q (F0 m 0 ls [])) :
    aMet l ad dc D A y cc nL (some rt) f lo σ η η' av (aQr ad dc D A r0 σ' η') := by
  refine Met.ofW (cc := cc) (maxL := nL) (ret := (some rt)) hy rfl ?_
  intro p e s m args below meth c s₁ B hml hv
  obtain ⟨rfl, hP, hK, hN, hE⟩ := hv
  have hts := atoms_spec (ws := ws_ y cc nL (some rt)) B.pre
  rw [lg_entry_eq]
  exact body p e s m below meth c _ ⟨B.exec, B.bytes, hml, hyc ▸ findClass_of_methodNamed B.named, fun w h => hts w (List.mem_cons_of_mem _ h), hK, hi, hN, B.notSynchronized⟩ (name_of_methodNamed B.named B.method).1 (fun pc H locs ls hd G => W.aret B.exec B.bytes B.returns hrt (Or.inr ⟨_, rfl⟩) (fun t ht hW => ⟨⟨(), ad r0, rfl, trivial, rfl, by show va_P _ _ _ t.heap; rw [ht]; exact G.1⟩, G.2.1.F ht⟩) G.2.1.2.2 hd) hE _ (lv_entry av hlen) ⟨hP, va_S.rf, ks_nd _, hA⟩
end AMET
noncomputable def ckX {β : Type} (η : Eta) (x : Option β) : Option β := @ite _ (XOK (ksOf η) η.1) (Classical.propDecidable _) x none
theorem ckX_e {β : Type} {η : Eta} {x : Option β} {o : β} (h : ckX η x = some o) : XOK (ksOf η) η.1 ∧ x = some o := by
  unfold ckX at h
  split at h
  · exact ⟨by assumption, h⟩
  · cases h
def ckW {β : Type} (x : Int32) (b : Option β) : Option β := if ¬ x < 0 ∧ x.toNatClampNeg ≤ 1000000 then b else none
theorem ckW_e {β : Type} {x : Int32} {b : Option β} {o : β} (h : ckW x b = some o) : (¬ x < 0 ∧ x.toNatClampNeg ≤ 1000000) ∧ b = some o := by
  unfold ckW at h
  split at h
  · exact ⟨by assumption, h⟩
  · cases h
/-- an array of ints, of bytes .. whose length isn't known beforehand -/
def ckI {β : Type} (t : Nat) (q : Sh) (f : Nat → Option β) : Option β := if q = (1, t, q.2.2.1, []) then f q.2.2.1 else none
theorem ckI_e {β : Type} {t : Nat} {q : Sh} {f : Nat → Option β} {o : β} (h : ckI t q f = some o) : ∃ n, q = (1, t, n, []) ∧ f n = some o := by
  unfold ckI at h
  split at h
  · exact ⟨q.2.2.1, by assumption, h⟩
  · cases h
def bn3 {α γ δ β : Type} (x : Option (α × γ × δ)) (f : α → γ → δ → Option β) : Option β := match x with
  | some (a, g, d) => f a g d
  | none => none
theorem bn3_e {α γ δ β : Type} {x : Option (α × γ × δ)} {f : α → γ → δ → Option β} {o : β} (h : bn3 x f = some o) : ∃ a g d, x = some (a, g, d) ∧ f a g d = some o := by
  cases x with
  | none => cases h
  | some q => exact ⟨q.1, q.2.1, q.2.2, rfl, h⟩
section ALE
variable {ad : Nat → Nat} {dc : Nat → ClassId} {A : Nat → Prop} {s : State} {n0 z0 N1 Z1 cells slots : Nat} {η η1 ηo : Eta}
theorem a_le (E : EA ad dc A s n0 z0 η cells slots) (m : EX η ηo) (hN : ηo.2.1 ≤ n0 + N1 ∧ ηo.2.2 ≤ z0 + Z1) : cells ≤ N1 ∧ slots ≤ Z1 := by
  have h1 := E.1
  have h2 := E.2.1
  have h3 := m.1
  have h4 := m.2.1
  omega
theorem a_le1 {q : Sh} {z : Nat} (E : EA ad dc A s n0 z0 η cells slots) (m : EX (aE η q z) ηo) (hN : ηo.2.1 ≤ n0 + N1 ∧ ηo.2.2 ≤ z0 + Z1) : cells + 1 ≤ N1 := by
  have h1 := E.1
  have h3 : η.2.1 + 1 ≤ ηo.2.1 := m.1
  omega
theorem a_le2 {q : Sh} {z : Nat} (E : EA ad dc A s n0 z0 η cells slots) (m : EX (aE η q z) ηo) (hN : ηo.2.1 ≤ n0 + N1 ∧ ηo.2.2 ≤ z0 + Z1) : slots + z ≤ Z1 := by
  have h1 := E.2.1
  have h3 : η.2.2 + z ≤ ηo.2.2 := m.2.1
  omega
theorem a_lec (E : EA ad dc A s n0 z0 η cells slots) (m1 : EX η η1) (m : EX η1 ηo) (hN : ηo.2.1 ≤ n0 + N1 ∧ ηo.2.2 ≤ z0 + Z1) : cells + (η1.2.1 - η.2.1) ≤ N1 ∧ slots + (η1.2.2 - η.2.2) ≤ Z1 := by
  have h1 := E.1
  have h2 := E.2.1
  have h3 := m.1
  have h4 := m.2.1
  have h5 := m1.1
  have h6 := m1.2.1
  omega
theorem a_end (E : EA ad dc A s n0 z0 η cells slots) (hN : η.2.1 ≤ n0 + N1 ∧ η.2.2 ≤ z0 + Z1) : cells ≤ N1 ∧ slots ≤ Z1 := a_le E EX.rf hN
end ALE
/-- a loop grows the cells -/
theorem mo_iter {α β : Type} {f : α → Option (β ⊕ α)} {ga : α → Eta} {gb : β → Eta} (hf : ∀ a o, f a = some o → EX (ga a) (Sum.elim gb ga o)) : ∀ (n : Nat) (a : α) (b : β), iter f n a = some b → EX (ga a) (gb b) := by
  intro n
  induction n with
  | zero => intro a b h; cases h
  | succ n ih =>
    intro a b h
    obtain ⟨r, h1, h2⟩ := iter_e h
    have h3 := hf a r h1
    rcases h2 with rfl | ⟨a', rfl, h2⟩
    · exact h3
    · exact EX.tr h3 (ih a' b h2)
theorem a_leq {n0 z0 N1 Z1 : Nat} {η1 η2 : Eta} (m : EX η1 η2) (hN : η2.2.1 ≤ n0 + N1 ∧ η2.2.2 ≤ z0 + Z1) : η1.2.1 ≤ n0 + N1 ∧ η1.2.2 ≤ z0 + Z1 := ⟨Nat.le_trans m.1 hN.1, Nat.le_trans m.2.1 hN.2⟩
theorem a_kN {η η' : Eta} : η'.2.1 ≤ η.2.1 + (η'.2.1 - η.2.1) ∧ η'.2.2 ≤ η.2.2 + (η'.2.2 - η.2.2) := by omega
