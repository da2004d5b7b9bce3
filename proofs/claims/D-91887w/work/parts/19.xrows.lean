/-! rows of nest mates' members; the hand, which may be null -/
set_option maxRecDepth 100000
def ckH {β : Type} (r : Option Nat) (x y : Option β) : Option β := match r with
  | none => x
  | some a => if a = 48 then y else none
theorem ckH_e {β : Type} {r : Option Nat} {x y : Option β} {o : β} (h : ckH r x y = some o) : (r = none ∧ x = some o) ∨ (r = some 48 ∧ y = some o) := by
  cases r with
  | none => exact Or.inl ⟨rfl, h⟩
  | some a =>
    have h : (if a = 48 then y else none) = some o := h
    by_cases q : a = 48
    · rw [if_pos q] at h; exact Or.inr ⟨by rw [q], h⟩
    · rw [if_neg q] at h; cases h
theorem xn_of {dc : Nat → ClassId} {s : State} (h : XN dc s) {w : Cond} (hw : w ∈ lw_tbl) (hr : isRide w = true) : va_Nw w s := h.1 w hw hr
section GENN
variable {p : Program} {l : Launch} {e : Env} {R : Room} {s : State} {m : MethodId} {args : Array Value} {below : List Frame} {meth : Method} {c : Code} {H : Heap} {locs : List Loc} {cells slots : Nat} {Q : State → Prop}
variable {cc : ByteArray} {nL : Nat} {sh : Nat → Sh} {ks : List Nat} {ad : Nat → Nat} {dc : Nat → ClassId} {D : va_G} {A : Nat → Prop} {own : String} {σ : St} {pc : Nat} {ls : Array Slot} {rest : List Value}
theorem g_getN (C0 : Cx ad dc D own cc nL p s m args meth c) (G : GW sh ks ad dc D A s σ H locs) {C : String} {T : u_T} {n ci idx : Nat} {fl : List (Nat × Nat)} (hin : ∀ w ∈ u_ws C T n, w ∈ lw_all) (hc : vwCl[ci]? = some (C, T, n)) {k : Nat} (hk : k ∈ ks) (hs : sh k = (0, ci, 0, fl)) (j : Nat) (hj : j < n) {f : Nat × Nat} (hf : fl[j]? = some f) {host : String} (hq : va_Nw (.fieldLinkNest own idx (T j).1 (T j).2.1 (T j).2.2.1 host) s) (hdg : decode cc pc = .ok (.getfield idx, 3))
    {v : Value} (hv : fvOf ad σ k j f = v) (kk : W p l e R s m args below meth c H locs cells slots Q (F0 m (pc + 3) ls (v :: rest))) : W p l e R s m args below meth c H locs cells slots Q (F0 m pc ls (.ref (ad k) :: rest)) := by
  subst hv
  obtain ⟨i, hi⟩ := List.getElem?_of_mem hk
  exact va_getN (D := D) (ci := ci) (C := C) (T := T) (N := n) C0.1 C0.2.1 C0.2.2.2.2.1 hin C0.2.2.2.1 C0.2.2.2.2.2.1 G.1 i ((wsOf_at hi).trans (by rw [ce_o hs])) hc j hj (va_Nw.use rfl hq) (fun _ h9 => h9) (fl_get hf) hdg kk
theorem g_getIN (C0 : Cx ad dc D own cc nL p s m args meth c) (G : GW sh ks ad dc D A s σ H locs) {C : String} {T : u_T} {n ci idx : Nat} {fl : List (Nat × Nat)} (hin : ∀ w ∈ u_ws C T n, w ∈ lw_all) (hc : vwCl[ci]? = some (C, T, n)) {k : Nat} (hk : k ∈ ks) (hs : sh k = (0, ci, 0, fl)) (j : Nat) (hj : j < n) {x : Nat} (hf : fl[j]? = some (0, x)) {host : String} (hq : va_Nw (.fieldLinkNest own idx (T j).1 (T j).2.1 (T j).2.2.1 host) s) (hdg : decode cc pc = .ok (.getfield idx, 3))
    (kk : W p l e R s m args below meth c H locs cells slots Q (F0 m (pc + 3) ls (.int (gI σ k j) :: rest))) : W p l e R s m args below meth c H locs cells slots Q (F0 m pc ls (.ref (ad k) :: rest)) := g_getN C0 G hin hc hk hs j hj hf hq hdg rfl kk
theorem g_getLN (C0 : Cx ad dc D own cc nL p s m args meth c) (G : GW sh ks ad dc D A s σ H locs) {C : String} {T : u_T} {n ci idx : Nat} {fl : List (Nat × Nat)} (hin : ∀ w ∈ u_ws C T n, w ∈ lw_all) (hc : vwCl[ci]? = some (C, T, n)) {k : Nat} (hk : k ∈ ks) (hs : sh k = (0, ci, 0, fl)) (j : Nat) (hj : j < n) {x : Nat} (hf : fl[j]? = some (1, x)) {host : String} (hq : va_Nw (.fieldLinkNest own idx (T j).1 (T j).2.1 (T j).2.2.1 host) s) (hdg : decode cc pc = .ok (.getfield idx, 3))
    (kk : W p l e R s m args below meth c H locs cells slots Q (F0 m (pc + 3) ls (.long (gL σ k j) :: rest))) : W p l e R s m args below meth c H locs cells slots Q (F0 m pc ls (.ref (ad k) :: rest)) := g_getN C0 G hin hc hk hs j hj hf hq hdg rfl kk
theorem g_getCN (C0 : Cx ad dc D own cc nL p s m args meth c) (G : GW sh ks ad dc D A s σ H locs) {C : String} {T : u_T} {n ci idx : Nat} {fl : List (Nat × Nat)} (hin : ∀ w ∈ u_ws C T n, w ∈ lw_all) (hc : vwCl[ci]? = some (C, T, n)) {k : Nat} (hk : k ∈ ks) (hs : sh k = (0, ci, 0, fl)) (j : Nat) (hj : j < n) {x : Nat} (hf : fl[j]? = some (2, x)) {host : String} (hq : va_Nw (.fieldLinkNest own idx (T j).1 (T j).2.1 (T j).2.2.1 host) s) (hdg : decode cc pc = .ok (.getfield idx, 3))
    (kk : W p l e R s m args below meth c H locs cells slots Q (F0 m (pc + 3) ls (.ref (ad x) :: rest))) : W p l e R s m args below meth c H locs cells slots Q (F0 m pc ls (.ref (ad k) :: rest)) := g_getN C0 G hin hc hk hs j hj hf hq hdg rfl kk
theorem g_putN (C0 : Cx ad dc D own cc nL p s m args meth c) (G : GW sh ks ad dc D A s σ H locs) {C : String} {T : u_T} {n ci idx : Nat} {fl : List (Nat × Nat)} (hin : ∀ w ∈ u_ws C T n, w ∈ lw_all) {ty0 : Nat → FieldType} (hty : ∀ k, k < n → parseFieldDescriptor (T k).2.2.1 = some (ty0 k)) (hnm : ∀ a, a < n → ∀ b, b < n → a ≠ b → (T a).2.1 ≠ (T b).2.1) (hc : vwCl[ci]? = some (C, T, n)) {k : Nat} (hk : k ∈ ks) (hs : sh k = (0, ci, 0, fl)) (j : Nat) (hj : j < n) {f : Nat × Nat} (hf : fl[j]? = some f) {host : String} (hq : va_Nw (.fieldLinkNest own idx (T j).1 (T j).2.1 (T j).2.2.1 host) s) (hfin : (T j).2.2.2 = false) (hdg : decode cc pc = .ok (.putfield idx, 3))
    {v : Value} (hn : narrow (ty0 j) v = v) (hfit : fits (ty0 j) v = true) (σ' : St) (hv : fvOf ad σ' k j f = v) (ho : ∀ i g, i ≠ j → fvOf ad σ' k i g = fvOf ad σ k i g) (hoff : ∀ c, c ≠ k → ceOf ad dc σ' c (sh c) = ceOf ad dc σ c (sh c))
    (kk : ∀ H1 locs1, GW sh ks ad dc D A s σ' H1 locs1 → W p l e R s m args below meth c H1 locs1 cells slots Q (F0 m (pc + 3) ls rest)) : W p l e R s m args below meth c H locs cells slots Q (F0 m pc ls (v :: .ref (ad k) :: rest)) := by
  obtain ⟨i, hi⟩ := List.getElem?_of_mem hk
  refine va_putN (D := D) (ci := ci) (v := v) (ty := ty0 j) (C := C) (T := T) (N := n) C0.1 C0.2.1 C0.2.2.2.2.1 hin ty0 hty hnm C0.2.2.2.1 C0.2.2.2.2.2.1 G.1 (wsOf_D C0.2.2.2.2.2.2.1 G.2.2.1 G.2.2.2) G.2.1 i ((wsOf_at hi).trans (by rw [ce_o hs])) hc j hj (va_Nw.use rfl hq) (fun _ h9 => h9) hfin (hty j hj) hn hfit (by simpa using (List.getElem?_eq_some_iff.mp hf).1) hdg (fun H1 locs1 hP _ hS => kk H1 locs1 ⟨?_, hS, G.2.2⟩)
  rw [wsOf_set (σ' := σ') G.2.2.1 hi (by rw [ce_o hs, fl_set hf hv ho]) hoff] at hP
  exact hP
theorem g_putIN (C0 : Cx ad dc D own cc nL p s m args meth c) (G : GW sh ks ad dc D A s σ H locs) {C : String} {T : u_T} {n ci idx : Nat} {fl : List (Nat × Nat)} (hin : ∀ w ∈ u_ws C T n, w ∈ lw_all) {ty0 : Nat → FieldType} (hty : ∀ k, k < n → parseFieldDescriptor (T k).2.2.1 = some (ty0 k)) (hnm : ∀ a, a < n → ∀ b, b < n → a ≠ b → (T a).2.1 ≠ (T b).2.1) (hc : vwCl[ci]? = some (C, T, n)) {k : Nat} (hk : k ∈ ks) (hs : sh k = (0, ci, 0, fl)) (j : Nat) (hj : j < n) {x0 : Nat} (hf : fl[j]? = some (0, x0)) {host : String} (hq : va_Nw (.fieldLinkNest own idx (T j).1 (T j).2.1 (T j).2.2.1 host) s) (hfin : (T j).2.2.2 = false) (hdg : decode cc pc = .ok (.putfield idx, 3))
    {x : Int32} (hn : narrow (ty0 j) (.int x) = .int x ∧ fits (ty0 j) (.int x) = true)
    (kk : ∀ σ' H1 locs1, σ' = pI σ k j x → GW sh ks ad dc D A s σ' H1 locs1 → W p l e R s m args below meth c H1 locs1 cells slots Q (F0 m (pc + 3) ls rest)) : W p l e R s m args below meth c H locs cells slots Q (F0 m pc ls (.int x :: .ref (ad k) :: rest)) := by
  refine g_putN C0 G hin hty hnm hc hk hs j hj hf hq hfin hdg hn.1 hn.2 (pI σ k j x) ?_ ?_ ?_ (fun H1 locs1 G1 => kk _ H1 locs1 rfl G1)
  · show Value.int _ = _
    rw [gI_pI, if_pos ⟨rfl, rfl⟩]
  · intro i g hi
    unfold fvOf
    rw [gI_pI, if_neg (fun q => hi q.2)]
    rfl
  · intro c hc
    exact ce_off (fun k' => by rw [gI_pI, if_neg (fun q => hc q.1)]) (fun _ => rfl) (fun _ => rfl) (fun _ => rfl)
theorem g_putLN (C0 : Cx ad dc D own cc nL p s m args meth c) (G : GW sh ks ad dc D A s σ H locs) {C : String} {T : u_T} {n ci idx : Nat} {fl : List (Nat × Nat)} (hin : ∀ w ∈ u_ws C T n, w ∈ lw_all) {ty0 : Nat → FieldType} (hty : ∀ k, k < n → parseFieldDescriptor (T k).2.2.1 = some (ty0 k)) (hnm : ∀ a, a < n → ∀ b, b < n → a ≠ b → (T a).2.1 ≠ (T b).2.1) (hc : vwCl[ci]? = some (C, T, n)) {k : Nat} (hk : k ∈ ks) (hs : sh k = (0, ci, 0, fl)) (j : Nat) (hj : j < n) {x0 : Nat} (hf : fl[j]? = some (1, x0)) {host : String} (hq : va_Nw (.fieldLinkNest own idx (T j).1 (T j).2.1 (T j).2.2.1 host) s) (hfin : (T j).2.2.2 = false) (hdg : decode cc pc = .ok (.putfield idx, 3))
    {x : Int64} (hn : narrow (ty0 j) (.long x) = .long x ∧ fits (ty0 j) (.long x) = true)
    (kk : ∀ σ' H1 locs1, σ' = pL σ k j x → GW sh ks ad dc D A s σ' H1 locs1 → W p l e R s m args below meth c H1 locs1 cells slots Q (F0 m (pc + 3) ls rest)) : W p l e R s m args below meth c H locs cells slots Q (F0 m pc ls (.long x :: .ref (ad k) :: rest)) := by
  refine g_putN C0 G hin hty hnm hc hk hs j hj hf hq hfin hdg hn.1 hn.2 (pL σ k j x) ?_ ?_ ?_ (fun H1 locs1 G1 => kk _ H1 locs1 rfl G1)
  · show Value.long _ = _
    rw [gL_pL, if_pos ⟨rfl, rfl⟩]
  · intro i g hi
    unfold fvOf
    rw [gL_pL, if_neg (fun q => hi q.2)]
    rfl
  · intro c hc
    exact ce_off (fun _ => rfl) (fun k' => by rw [gL_pL, if_neg (fun q => hc q.1)]) (fun _ => rfl) (fun _ => rfl)
theorem g_getRn (C0 : Cx ad dc D own cc nL p s m args meth c) (G : GW sh ks ad dc D A s σ H locs) {C : String} {T : u_T} {n ci idx : Nat} {fl : List (Nat × Nat)} (hin : ∀ w ∈ u_ws C T n, w ∈ lw_all) (hc : vwCl[ci]? = some (C, T, n)) {k : Nat} (hk : k ∈ ks) (hs : sh k = (0, ci, 0, fl)) (j : Nat) (hj : j < n) {x : Nat} (hf : fl[j]? = some (3, x)) (hq : Cond.fieldLink own idx (T j).1 (T j).2.1 (T j).2.2.1 ∈ lw_all) (hdg : decode cc pc = .ok (.getfield idx, 3)) (e_h : gR σ k j = none)
    (kk : W p l e R s m args below meth c H locs cells slots Q (F0 m (pc + 3) ls (.null :: rest))) : W p l e R s m args below meth c H locs cells slots Q (F0 m pc ls (.ref (ad k) :: rest)) := g_get C0 G hin hc hk hs j hj hf hq hdg (by show va_rf ((gR σ k j).map ad) = _; rw [e_h]; rfl) kk
theorem g_getRs (C0 : Cx ad dc D own cc nL p s m args meth c) (G : GW sh ks ad dc D A s σ H locs) {C : String} {T : u_T} {n ci idx : Nat} {fl : List (Nat × Nat)} (hin : ∀ w ∈ u_ws C T n, w ∈ lw_all) (hc : vwCl[ci]? = some (C, T, n)) {k : Nat} (hk : k ∈ ks) (hs : sh k = (0, ci, 0, fl)) (j : Nat) (hj : j < n) {x : Nat} (hf : fl[j]? = some (3, x)) (hq : Cond.fieldLink own idx (T j).1 (T j).2.1 (T j).2.2.1 ∈ lw_all) (hdg : decode cc pc = .ok (.getfield idx, 3)) {a : Nat} (e_h : gR σ k j = some a)
    (kk : W p l e R s m args below meth c H locs cells slots Q (F0 m (pc + 3) ls (.ref (ad a) :: rest))) : W p l e R s m args below meth c H locs cells slots Q (F0 m pc ls (.ref (ad k) :: rest)) := g_get C0 G hin hc hk hs j hj hf hq hdg (by show va_rf ((gR σ k j).map ad) = _; rw [e_h]; rfl) kk
end GENN
section CALLSN
variable {p : Program} {l : Launch} {e : Env} {R : Room} {s : State} {m : MethodId} {args : Array Value} {below : List Frame} {meth : Method} {c : Code} {H : Heap} {locs : List Loc} {cells slots : Nat} {Q : State → Prop}
variable {cc : ByteArray} {nL : Nat} {sh : Nat → Sh} {ks : List Nat} {ad : Nat → Nat} {dc : Nat → ClassId} {D : va_G} {A : Nat → Prop} {own : String} {σ σ' : St} {pc : Nat} {ls : Array Slot} {rest st0 : List Value}
variable {y : MethodName} {bytes : ByteArray} {maxL : Nat} {ret : Option FieldType} {rm : Room} {idx : Nat} {host : String} {As : List Value} {lv : List (Nat × Value)}
theorem g_callVNi (C0 : Cx ad dc D own cc nL p s m args meth c) (G : GW sh ks ad dc D A s σ H locs) (hl : lv_has ls nL lv) {C : String} {T : u_T} {n ci : Nat} {fl : List (Nat × Nat)} (hc : vwCl[ci]? = some (C, T, n)) {k : Nat} (hk : k ∈ ks) (hs : sh k = (0, ci, 0, fl)) {r0 : Int32}
    (hM : Met l y (ws_ y bytes maxL ret) rm (gPc sh ks ad dc D σ (.ref (ad k) :: As)) (gQi sh ks ad dc D A σ' r0) 0 0 A) (cw : va_CN R s args own idx y host bytes maxL ret (ws_ y bytes maxL ret) rm 0 0 As.length ∧ (Cond.instanceMethod y).before args s = true ∧ (Cond.selects C y y).before args s = true) (hst : st0 = As.reverse ++ .ref (ad k) :: rest) (hroom : (rest.map fun v => v.category).sum ≤ 8) (hdg : decode cc pc = .ok (.invokevirtual idx, 3)) (hf : cells ≤ R.cells ∧ slots ≤ R.slots)
    (kk : ∀ H1 locs1, GW sh ks ad dc D A s σ' H1 locs1 → W p l e R s m args below meth c H1 locs1 cells slots Q (F0 m (pc + 3) ls (.int r0 :: rest))) : W p l e R s m args below meth c H locs cells slots Q (F0 m pc ls st0) := by
  refine va_calli (va_runVN ⟨C0.1, C0.2.1, C0.2.2.1, C0.2.2.2.1, C0.2.2.2.2.1⟩ hM cw (g_preV C0 G hc hk hs) rfl rfl hl.1 hst (lv_room hroom) hdg hf) G.2.1 (fun _ _ h => h) (fun _ h => h) (fun r u t H1 locs1 ht hvm hr hB hz hk1 hS => ?_)
  subst hr
  exact kk H1 locs1 ⟨ht ▸ hB, hS, G.2.2⟩
theorem g_callVNl (C0 : Cx ad dc D own cc nL p s m args meth c) (G : GW sh ks ad dc D A s σ H locs) (hl : lv_has ls nL lv) {C : String} {T : u_T} {n ci : Nat} {fl : List (Nat × Nat)} (hc : vwCl[ci]? = some (C, T, n)) {k : Nat} (hk : k ∈ ks) (hs : sh k = (0, ci, 0, fl)) {r0 : Int64}
    (hM : Met l y (ws_ y bytes maxL ret) rm (gPc sh ks ad dc D σ (.ref (ad k) :: As)) (gQl sh ks ad dc D A σ' r0) 0 0 A) (cw : va_CN R s args own idx y host bytes maxL ret (ws_ y bytes maxL ret) rm 0 0 As.length ∧ (Cond.instanceMethod y).before args s = true ∧ (Cond.selects C y y).before args s = true) (hst : st0 = As.reverse ++ .ref (ad k) :: rest) (hroom : (rest.map fun v => v.category).sum ≤ 8) (hdg : decode cc pc = .ok (.invokevirtual idx, 3)) (hf : cells ≤ R.cells ∧ slots ≤ R.slots)
    (kk : ∀ H1 locs1, GW sh ks ad dc D A s σ' H1 locs1 → W p l e R s m args below meth c H1 locs1 cells slots Q (F0 m (pc + 3) ls (.long r0 :: rest))) : W p l e R s m args below meth c H locs cells slots Q (F0 m pc ls st0) := by
  refine va_calll (va_runVN ⟨C0.1, C0.2.1, C0.2.2.1, C0.2.2.2.1, C0.2.2.2.2.1⟩ hM cw (g_preV C0 G hc hk hs) rfl rfl hl.1 hst (lv_room hroom) hdg hf) G.2.1 (fun _ _ h => h) (fun _ h => h) (fun r u t H1 locs1 ht hvm hr hB hz hk1 hS => ?_)
  subst hr
  exact kk H1 locs1 ⟨ht ▸ hB, hS, G.2.2⟩
theorem g_callVNv (C0 : Cx ad dc D own cc nL p s m args meth c) (G : GW sh ks ad dc D A s σ H locs) (hl : lv_has ls nL lv) {C : String} {T : u_T} {n ci : Nat} {fl : List (Nat × Nat)} (hc : vwCl[ci]? = some (C, T, n)) {k : Nat} (hk : k ∈ ks) (hs : sh k = (0, ci, 0, fl))
    (hM : Met l y (ws_ y bytes maxL ret) rm (gPc sh ks ad dc D σ (.ref (ad k) :: As)) (gQv sh ks ad dc D A σ') 0 0 A) (cw : va_CN R s args own idx y host bytes maxL ret (ws_ y bytes maxL ret) rm 0 0 As.length ∧ (Cond.instanceMethod y).before args s = true ∧ (Cond.selects C y y).before args s = true) (hst : st0 = As.reverse ++ .ref (ad k) :: rest) (hroom : (rest.map fun v => v.category).sum ≤ 8) (hdg : decode cc pc = .ok (.invokevirtual idx, 3)) (hf : cells ≤ R.cells ∧ slots ≤ R.slots)
    (kk : ∀ H1 locs1, GW sh ks ad dc D A s σ' H1 locs1 → W p l e R s m args below meth c H1 locs1 cells slots Q (F0 m (pc + 3) ls rest)) : W p l e R s m args below meth c H locs cells slots Q (F0 m pc ls st0) := by
  refine va_callv (va_runVN ⟨C0.1, C0.2.1, C0.2.2.1, C0.2.2.2.1, C0.2.2.2.2.1⟩ hM cw (g_preV C0 G hc hk hs) rfl rfl hl.1 hst (lv_room hroom) hdg hf) G.2.1 (fun _ _ h => h) (fun _ h => h) (fun u t H1 locs1 ht hvm hr hB hz hk1 hS => ?_)
  exact kk H1 locs1 ⟨ht ▸ hB, hS, G.2.2⟩
theorem g_callSNi (C0 : Cx ad dc D own cc nL p s m args meth c) (G : GW sh ks ad dc D A s σ H locs) (hl : lv_has ls nL lv) {r0 : Int32}
    (hM : Met l y (ws_ y bytes maxL ret) rm (gPc sh ks ad dc D σ As) (gQi sh ks ad dc D A σ' r0) 0 0 A) (cw : va_CN R s args own idx y host bytes maxL ret (ws_ y bytes maxL ret) rm 0 0 As.length ∧ (Cond.static y).before args s = true ∧ True) (hst : st0 = As.reverse ++ rest) (hroom : (rest.map fun v => v.category).sum ≤ 8) (hdg : decode cc pc = .ok (.invokestatic idx, 3)) (hf : cells ≤ R.cells ∧ slots ≤ R.slots)
    (kk : ∀ H1 locs1, GW sh ks ad dc D A s σ' H1 locs1 → W p l e R s m args below meth c H1 locs1 cells slots Q (F0 m (pc + 3) ls (.int r0 :: rest))) : W p l e R s m args below meth c H locs cells slots Q (F0 m pc ls st0) := by
  refine va_calli (va_runSN ⟨C0.1, C0.2.1, C0.2.2.1, C0.2.2.2.1, C0.2.2.2.2.1⟩ hM cw (g_preS C0 G) rfl rfl hl.1 hst (lv_room hroom) hdg hf) G.2.1 (fun _ _ h => h) (fun _ h => h) (fun r u t H1 locs1 ht hvm hr hB hz hk1 hS => ?_)
  subst hr
  exact kk H1 locs1 ⟨ht ▸ hB, hS, G.2.2⟩
theorem g_callSNl (C0 : Cx ad dc D own cc nL p s m args meth c) (G : GW sh ks ad dc D A s σ H locs) (hl : lv_has ls nL lv) {r0 : Int64}
    (hM : Met l y (ws_ y bytes maxL ret) rm (gPc sh ks ad dc D σ As) (gQl sh ks ad dc D A σ' r0) 0 0 A) (cw : va_CN R s args own idx y host bytes maxL ret (ws_ y bytes maxL ret) rm 0 0 As.length ∧ (Cond.static y).before args s = true ∧ True) (hst : st0 = As.reverse ++ rest) (hroom : (rest.map fun v => v.category).sum ≤ 8) (hdg : decode cc pc = .ok (.invokestatic idx, 3)) (hf : cells ≤ R.cells ∧ slots ≤ R.slots)
    (kk : ∀ H1 locs1, GW sh ks ad dc D A s σ' H1 locs1 → W p l e R s m args below meth c H1 locs1 cells slots Q (F0 m (pc + 3) ls (.long r0 :: rest))) : W p l e R s m args below meth c H locs cells slots Q (F0 m pc ls st0) := by
  refine va_calll (va_runSN ⟨C0.1, C0.2.1, C0.2.2.1, C0.2.2.2.1, C0.2.2.2.2.1⟩ hM cw (g_preS C0 G) rfl rfl hl.1 hst (lv_room hroom) hdg hf) G.2.1 (fun _ _ h => h) (fun _ h => h) (fun r u t H1 locs1 ht hvm hr hB hz hk1 hS => ?_)
  subst hr
  exact kk H1 locs1 ⟨ht ▸ hB, hS, G.2.2⟩
end CALLSN
