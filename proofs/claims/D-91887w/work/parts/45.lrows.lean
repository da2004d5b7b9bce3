/-! rows of lists of objects: null stores, copies, class objects, toArray through the interface -/
set_option maxRecDepth 100000
/-- an object of a class that is known to be an Object -/
def obS (q : Sh) : Prop := q.1 = 0 ∧ q.2.1 < 25 ∧ q.2.2.1 = 0
theorem obS_e {q : Sh} (h : obS q) : ∃ ci fl, q = (0, ci, 0, fl) ∧ ci < 25 := by
  obtain ⟨a, b, d, f⟩ := q
  obtain ⟨h1, h2, h3⟩ := h
  dsimp only at h1 h2 h3
  subst h1
  subst h3
  exact ⟨b, f, rfl, h2⟩
theorem cls_obj : ∀ ci, ci < 25 → ∃ r, vwCl[ci]? = some r ∧ Cond.castable r.1 "java/lang/Object" ∈ lw_tbl := by
  intro ci h
  rcases (show ci = 0 ∨ ci = 1 ∨ ci = 2 ∨ ci = 3 ∨ ci = 4 ∨ ci = 5 ∨ ci = 6 ∨ ci = 7 ∨ ci = 8 ∨ ci = 9 ∨ ci = 10 ∨ ci = 11 ∨ ci = 12 ∨ ci = 13 ∨ ci = 14 ∨ ci = 15 ∨ ci = 16 ∨ ci = 17 ∨ ci = 18 ∨ ci = 19 ∨ ci = 20 ∨ ci = 21 ∨ ci = 22 ∨ ci = 23 ∨ ci = 24 by omega) with rfl | rfl | rfl | rfl | rfl | rfl | rfl | rfl | rfl | rfl | rfl | rfl | rfl | rfl | rfl | rfl | rfl | rfl | rfl | rfl | rfl | rfl | rfl | rfl | rfl
  · exact ⟨_, rfl, q2129⟩
  · exact ⟨_, rfl, q2128⟩
  · exact ⟨_, rfl, q2131⟩
  · exact ⟨_, rfl, q2132⟩
  · exact ⟨_, rfl, q2133⟩
  · exact ⟨_, rfl, q2134⟩
  · exact ⟨_, rfl, q2135⟩
  · exact ⟨_, rfl, q2137⟩
  · exact ⟨_, rfl, q2138⟩
  · exact ⟨_, rfl, q2139⟩
  · exact ⟨_, rfl, q2140⟩
  · exact ⟨_, rfl, q2141⟩
  · exact ⟨_, rfl, q2142⟩
  · exact ⟨_, rfl, q2143⟩
  · exact ⟨_, rfl, q2144⟩
  · exact ⟨_, rfl, q2145⟩
  · exact ⟨_, rfl, q2146⟩
  · exact ⟨_, rfl, q2147⟩
  · exact ⟨_, rfl, q2148⟩
  · exact ⟨_, rfl, q2149⟩
  · exact ⟨_, rfl, q2150⟩
  · exact ⟨_, rfl, q2151⟩
  · exact ⟨_, rfl, q2152⟩
  · exact ⟨_, rfl, q2153⟩
  · exact ⟨_, rfl, q2130⟩
noncomputable def ckP {β : Type} (P : Prop) (x : Option β) : Option β := @ite _ P (Classical.propDecidable _) x none
theorem ckP_e {β : Type} {P : Prop} {x : Option β} {o : β} (h : ckP P x = some o) : P ∧ x = some o := by
  unfold ckP at h
  split at h
  · exact ⟨by assumption, h⟩
  · cases h
theorem ckP_t {β : Type} {P : Prop} {x : Option β} (h : P) : ckP P x = x := if_pos h
/-- the elements sp .. of the array a are objects -/
def obE (sh : Nat → Sh) (σ : St) (a sp n : Nat) : Prop := ∀ i, i < n → ∀ y, gR σ a (sp + i) = some y → obS (sh y)
def pCR (σ : St) (a b sp dp n : Nat) : St := (σ.1, σ.2.1, σ.2.2.1, fun c => if c = b then va_cpy (gR σ a) (gR σ b) sp dp n else gR σ c)
theorem gI_pCR (σ : St) (a b sp dp n c k : Nat) : gI (pCR σ a b sp dp n) c k = gI σ c k := rfl
theorem gL_pCR (σ : St) (a b sp dp n c k : Nat) : gL (pCR σ a b sp dp n) c k = gL σ c k := rfl
theorem gA_pCR (σ : St) (a b sp dp n c k : Nat) : gA (pCR σ a b sp dp n) c k = gA σ c k := rfl
theorem gR_pCR (σ : St) (a b sp dp n c : Nat) : gR (pCR σ a b sp dp n) c = if c = b then va_cpy (gR σ a) (gR σ b) sp dp n else gR σ c := rfl
section LROW
variable {p : Program} {l : Launch} {e : Env} {R : Room} {s : State} {m : MethodId} {args : Array Value} {below : List Frame} {meth : Method} {c : Code} {H : Heap} {locs : List Loc} {cells slots : Nat} {Q : State → Prop}
variable {cc : ByteArray} {nL : Nat} {sh : Nat → Sh} {ks : List Nat} {ad : Nat → Nat} {dc : Nat → ClassId} {D : va_G} {A : Nat → Prop} {own : String} {σ σ' : St} {η η' : Eta} {pc idx n0 z0 : Nat} {ls : Array Slot} {rest st0 : List Value}
variable {y : MethodName} {bytes : ByteArray} {maxL : Nat} {ret : Option FieldType} {As : List Value} {lv : List (Nat × Value)}
theorem g_alenO (C0 : Cx ad dc D own cc nL p s m args meth c) (G : GW sh ks ad dc D A s σ H locs) {k n : Nat} (hk : k ∈ ks) (hs : sh k = (2, 3, n, [])) (hdg : decode cc pc = .ok (.arraylength, 1))
    (kk : W p l e R s m args below meth c H locs cells slots Q (F0 m (pc + 1) ls (.int (Int32.ofNat n) :: rest))) : W p l e R s m args below meth c H locs cells slots Q (F0 m pc ls (.ref (ad k) :: rest)) := by
  obtain ⟨i, hi⟩ := List.getElem?_of_mem hk
  exact va_alen C0.1 C0.2.1 C0.2.2.2.2.2.1 G.1 i 3 ((wsOf_at hi).trans (by rw [ce_r hs])) rfl rfl hdg kk
theorem g_aastN (C0 : Cx ad dc D own cc nL p s m args meth c) (G : GW sh ks ad dc D A s σ H locs) {k n : Nat} (hk : k ∈ ks) (hs : sh k = (2, 3, n, [])) {i : Int32} (hi : vp_in i n) (hdg : decode cc pc = .ok (.aastore, 1))
    (kk : ∀ σ' H1 locs1, σ' = pR σ k i.toNatClampNeg none → GW sh ks ad dc D A s σ' H1 locs1 → W p l e R s m args below meth c H1 locs1 cells slots Q (F0 m (pc + 1) ls rest)) : W p l e R s m args below meth c H locs cells slots Q (F0 m pc ls (.null :: .int i :: .ref (ad k) :: rest)) := by
  obtain ⟨i0, h0⟩ := List.getElem?_of_mem hk
  refine va_astqN (C := "java/lang/Object") C0.1 C0.2.1 C0.2.2.2.2.2.1 G.1 (wsOf_D C0.2.2.2.2.2.2.1 G.2.2.1 G.2.2.2) G.2.1 i0 3 ((wsOf_at h0).trans (by rw [ce_r hs])) rfl hi hdg (fun H1 locs1 hP _ hS => kk _ H1 locs1 rfl ⟨?_, hS, G.2.2⟩)
  rw [wsOf_set (σ' := pR σ k i.toNatClampNeg none) G.2.2.1 h0 ?_ ?_] at hP
  · exact hP
  · rw [ce_r hs]
    congr 7
    funext j
    rw [gR_pR]
    unfold va_up
    by_cases q : j = i.toNatClampNeg
    · rw [if_pos q, if_pos ⟨rfl, q⟩]; rfl
    · rw [if_neg q, if_neg (fun z => q z.2)]
  · intro c hc
    exact ce_off (fun _ => rfl) (fun _ => rfl) (fun _ => rfl) (fun k' => by rw [gR_pR, if_neg (fun q => hc q.1)])
theorem g_aastX (C0 : Cx ad dc D own cc nL p s m args meth c) (G : GW sh ks ad dc D A s σ H locs) {k n : Nat} (hk : k ∈ ks) (hs : sh k = (2, 3, n, [])) {i : Int32} (hi : vp_in i n) {a : Nat} (ha : a ∈ ks) (ho : obS (sh a)) (hdg : decode cc pc = .ok (.aastore, 1))
    (kk : ∀ σ' H1 locs1, σ' = pR σ k i.toNatClampNeg (some a) → GW sh ks ad dc D A s σ' H1 locs1 → W p l e R s m args below meth c H1 locs1 cells slots Q (F0 m (pc + 1) ls rest)) : W p l e R s m args below meth c H locs cells slots Q (F0 m pc ls (.ref (ad a) :: .int i :: .ref (ad k) :: rest)) := by
  obtain ⟨ci, fl, h1, h2⟩ := obS_e ho
  obtain ⟨r, h3, h4⟩ := cls_obj ci h2
  exact g_aast C0 G hk hs hi ha h1 h3 h4 hdg kk
/-- the images: an array of States -/
theorem g_aaldS (C0 : Cx ad dc D own cc nL p s m args meth c) (G : GW sh ks ad dc D A s σ H locs) {k n : Nat} (hk : k ∈ ks) (hs : sh k = (2, 4, n, [])) {i : Int32} (hi : vp_in i n) {x : Option Nat} (e_h : gR σ k i.toNatClampNeg = x) (hdg : decode cc pc = .ok (.aaload, 1)) {v : Value} (hv : va_rf (x.map ad) = v)
    (kk : W p l e R s m args below meth c H locs cells slots Q (F0 m (pc + 1) ls (v :: rest))) : W p l e R s m args below meth c H locs cells slots Q (F0 m pc ls (.int i :: .ref (ad k) :: rest)) := by
  obtain ⟨i0, h0⟩ := List.getElem?_of_mem hk
  subst e_h
  subst hv
  exact va_aldq (C := "HotIron$State") C0.1 C0.2.1 C0.2.2.2.2.2.1 G.1 i0 4 ((wsOf_at h0).trans (by rw [ce_r hs])) rfl hi hdg kk
theorem g_aastS (C0 : Cx ad dc D own cc nL p s m args meth c) (G : GW sh ks ad dc D A s σ H locs) {k n : Nat} (hk : k ∈ ks) (hs : sh k = (2, 4, n, [])) {i : Int32} (hi : vp_in i n) {a : Nat} {fl : List (Nat × Nat)} (ha : a ∈ ks) (hsa : sh a = (0, 1, 0, fl)) (hdg : decode cc pc = .ok (.aastore, 1))
    (kk : ∀ σ' H1 locs1, σ' = pR σ k i.toNatClampNeg (some a) → GW sh ks ad dc D A s σ' H1 locs1 → W p l e R s m args below meth c H1 locs1 cells slots Q (F0 m (pc + 1) ls rest)) : W p l e R s m args below meth c H locs cells slots Q (F0 m pc ls (.ref (ad a) :: .int i :: .ref (ad k) :: rest)) := by
  obtain ⟨i0, h0⟩ := List.getElem?_of_mem hk
  obtain ⟨i1, h1⟩ := List.getElem?_of_mem ha
  refine va_astq C0.1 C0.2.1 C0.2.2.2.2.2.1 G.1 (wsOf_D C0.2.2.2.2.2.2.1 G.2.2.1 G.2.2.2) G.2.1 i0 4 i1 1 (r := (RX1, TX1, 7)) ((wsOf_at h0).trans (by rw [ce_r hs])) rfl ((wsOf_at h1).trans (by rw [ce_o hsa])) rfl hi hdg (fun H1 locs1 hP _ hS => kk _ H1 locs1 rfl ⟨?_, hS, G.2.2⟩)
  rw [wsOf_set (σ' := pR σ k i.toNatClampNeg (some a)) G.2.2.1 h0 ?_ ?_] at hP
  · exact hP
  · rw [ce_r hs]
    congr 7
    funext j
    rw [gR_pR]
    unfold va_up
    by_cases q : j = i.toNatClampNeg
    · rw [if_pos q, if_pos ⟨rfl, q⟩]; rfl
    · rw [if_neg q, if_neg (fun z => q z.2)]
  · intro c hc
    exact ce_off (fun _ => rfl) (fun _ => rfl) (fun _ => rfl) (fun k' => by rw [gR_pR, if_neg (fun q => hc q.1)])
theorem g_copyR (C0 : Cx ad dc D own cc nL p s m args meth c) (G : GW sh ks ad dc D A s σ H locs) (hm : ∀ k, (sh k).1 ≠ 9 → k ∈ ks) (hl : lv_has ls nL lv) {k0 k1 n0 n1 : Nat} (hk0 : k0 ∈ ks) (hs0 : sh k0 = (2, 3, n0, [])) (hk1 : k1 ∈ ks) (hs1 : sh k1 = (2, 3, n1, [])) {sp dp n : Int32} (hc : ¬ sp < 0 ∧ ¬ dp < 0 ∧ ¬ n < 0 ∧ sp.toNatClampNeg + n.toNatClampNeg ≤ n0 ∧ dp.toNatClampNeg + n.toNatClampNeg ≤ n1) (ho : obE sh σ k0 sp.toNatClampNeg n.toNatClampNeg)
    (hq : Cond.methodLink own idx arraycopyName ∈ lw_all) (hq1 : Cond.native arraycopyName ∈ lw_all) (hq2 : Cond.static arraycopyName ∈ lw_all) (hq3 : Cond.initialized "java/lang/System" ∈ lw_all) (hframes : 1 ≤ R.frames) (hlocals : (rest.map fun v => v.category).sum + (nativeFrameWords "java/lang/System" "arraycopy" 5 + 11) ≤ R.locals) (hdg : decode cc pc = .ok (.invokestatic idx, 3))
    (kk : ∀ σ' H1 locs1, σ' = pCR σ k0 k1 sp.toNatClampNeg dp.toNatClampNeg n.toNatClampNeg → GW sh ks ad dc D A s σ' H1 locs1 → W p l e R s m args below meth c H1 locs1 cells slots Q (F0 m (pc + 3) ls rest)) : W p l e R s m args below meth c H locs cells slots Q (F0 m pc ls (.int n :: .int dp :: .ref (ad k1) :: .int sp :: .ref (ad k0) :: rest)) := by
  obtain ⟨i0, e0⟩ := List.getElem?_of_mem hk0
  obtain ⟨i1, e1⟩ := List.getElem?_of_mem hk1
  have hts := C0.2.2.2.2.1
  refine va_copyM C0.1 C0.2.1 (C0.2.2.1.trans hl.1.symm) C0.2.2.2.1 (hts _ hq) (hts _ hq1) (hts _ hq2) (hts _ hq3) C0.2.2.2.2.2.1 G.1 (wsOf_D C0.2.2.2.2.2.2.1 G.2.2.1 G.2.2.2) G.2.1 i0 i1 3 3 ((wsOf_at e0).trans (by rw [ce_r hs0])) ((wsOf_at e1).trans (by rw [ce_r hs1])) rfl rfl hc.1 hc.2.1 hc.2.2.1 hc.2.2.2.1 hc.2.2.2.2 (fun i hi z hz => ?_) hframes hlocals hdg (fun H1 locs1 hP _ hS => kk _ H1 locs1 rfl ⟨?_, hS, G.2.2⟩)
  · cases hg : gR σ k0 (sp.toNatClampNeg + i) with
    | none => rw [hg] at hz; cases hz
    | some w =>
      rw [hg] at hz
      cases hz
      obtain ⟨ci, fl, h1, h2⟩ := obS_e (ho i hi w hg)
      obtain ⟨r, h3, h4⟩ := cls_obj ci h2
      obtain ⟨j, hj⟩ := List.getElem?_of_mem (hm w (by rw [h1]; exact (by decide : (0 : Nat) ≠ 9)))
      refine va_rAny C0.2.2.2.2.2.1 G.1 ((wsOf_at hj).trans (by rw [ce_o h1])) h3 (fun comp c0 f1 f2 => ?_)
      obtain ⟨c0', t1, g1, g2, g3⟩ := Cond.castable_spec (va_Nw.use (A := args) rfl (xn_of C0.2.2.2.2.2.2.2.1 h4 rfl))
      cases f2.symm.trans g1
      cases f1.symm.trans g2
      exact g3
  · rw [wsOf_set (σ' := pCR σ k0 k1 sp.toNatClampNeg dp.toNatClampNeg n.toNatClampNeg) G.2.2.1 e1 ?_ ?_] at hP
    · exact hP
    · rw [ce_r hs1]
      congr 7
      funext j
      rw [gR_pCR, if_pos rfl]
      unfold va_cpy
      split <;> rfl
    · intro c hc
      exact ce_off (fun _ => rfl) (fun _ => rfl) (fun _ => rfl) (fun _ => by rw [gR_pCR, if_neg hc])
theorem a_getC (C0 : Cx ad dc D own cc nL p s m args meth c) (G : GW sh ks ad dc D A s σ H locs) (hl : lv_has ls nL lv) {k n : Nat} (hk : k ∈ ks) (hs : sh k = (2, 3, n, [])) (hq : Cond.methodLink own idx ⟨"java/lang/Object", "getClass", "()Ljava/lang/Class;"⟩ ∈ lw_all) (hframes : 1 ≤ R.frames) (hlocals : (rest.map fun v => v.category).sum + 14 ≤ R.locals) (hdg : decode cc pc = .ok (.invokevirtual idx, 3))
    (kk : W p l e R s m args below meth c H locs cells slots Q (F0 m (pc + 3) ls (.ref (dc 9) :: rest))) : W p l e R s m args below meth c H locs cells slots Q (F0 m pc ls (.ref (ad k) :: rest)) := by
  obtain ⟨i, hi⟩ := List.getElem?_of_mem hk
  have hts := C0.2.2.2.2.1
  have h0 : (wsOf ks sh ad dc σ)[i]? = some (ad k, .inl (dc 3, n, .inr (.inr (.inr (.inr (fun i => (gR σ k i).map ad)))))) := (wsOf_at hi).trans (by rw [ce_r hs])
  have h1 : H[ad k]? = some (vp_cell (dc 3) (n, .inr (.inr (.inr (.inr (fun i => (gR σ k i).map ad)))))) := G.1 i _ h0
  refine va_getC (C := "[Ljava/lang/Object;") C0.1 C0.2.1 (C0.2.2.1.trans hl.1.symm) C0.2.2.2.1 (hts _ hq) (va_Nw.use rfl (xn_of C0.2.2.2.2.2.2.2.1 q2158 rfl)) (hts _ q2157) (hts _ q540) (hts _ q568) C0.2.2.2.2.2.2.2.1.2.2.2.1 ⟨_, h1, rfl, ?_⟩ hframes hlocals hdg kk
  exact va_nmO ((C0.2.2.2.2.2.1.2 3 _ rfl).2) rfl
theorem a_ldcM (C0 : Cx ad dc D own cc nL p s m args meth c) (hq : Cond.classLink own idx "[Ljava/lang/Object;" ∈ lw_all) (hdg : decode cc pc = .ok (.ldc idx, 2))
    (kk : W p l e R s m args below meth c H locs cells slots Q (F0 m (pc + 2) ls (.ref (dc 9) :: rest))) : W p l e R s m args below meth c H locs cells slots Q (F0 m pc ls rest) :=
  va_ldcM C0.1 C0.2.1 C0.2.2.2.1 (C0.2.2.2.2.1 _ hq) C0.2.2.2.2.2.2.2.1.2.2.2.1 hdg kk
theorem a_acmp (C0 : Cx ad dc D own cc nL p s m args meth c) {off : Int} {tgt x : Nat} (hdg : decode cc pc = .ok (.if_acmp .ne off, 3)) (ht : (pc : Int) + off = (tgt : Int))
    (kk : W p l e R s m args below meth c H locs cells slots Q (F0 m (pc + 3) ls rest)) : W p l e R s m args below meth c H locs cells slots Q (F0 m pc ls (.ref x :: .ref x :: rest)) :=
  lv_acmp_ne (rx := some x) (ry := some x) C0.1 C0.2.1 hdg ht (fun q => absurd rfl q) (fun _ => kk)
theorem lw_F {own C : String} {idx : Nat} {x y : MethodName} {b : ByteArray} {L : Nat} {r : Option FieldType} (h1 : Cond.methodLink own idx x ∈ lw_all) (h2 : Cond.selects C x y ∈ lw_all) (h3 : Cond.instanceMethod y ∈ lw_all) (h4 : Cond.initialized y.cls ∈ lw_all) (h5 : Cond.code y b L r ∈ lw_all) : GoodIn lw_all (va_wsF own idx C x y (ws_ y b L r)) := by
  refine lw_app ?_ (lw_meth h5)
  intro w hw
  simp only [List.mem_cons, List.not_mem_nil, or_false] at hw
  rcases hw with e | e | e | e
  · rw [e]; exact h1
  · rw [e]; exact h2
  · rw [e]; exact h3
  · rw [e]; exact h4
theorem a_callFr {f lo cnt : Nat} {x : MethodName} (C0 : Cx ad dc D own cc nL p s m args meth c) (G : GW η.1 (ksOf η) ad dc D A s σ H locs) (E : EA ad dc A s n0 z0 η cells slots) (hl : lv_has ls nL lv) {C : String} {T : u_T} {n ci : Nat} {fl : List (Nat × Nat)} (hc : vwCl[ci]? = some (C, T, n)) {k : Nat} (hk : k ∈ ksOf η) (hs : η.1 k = (0, ci, 0, fl)) {r0 : Nat} (hx : EX η η')
    (hM : aMet l ad dc D A y bytes maxL ret f lo σ η η' (.ref (ad k) :: As) (aQr ad dc D A r0 σ' η')) (cw : va_CI R s args own C idx x y bytes maxL ret (ws_ y bytes maxL ret) (RA f lo (η'.2.1 - η.2.1) (η'.2.2 - η.2.2)) (η'.2.1 - η.2.1) (η'.2.2 - η.2.2) As.length) (hst : st0 = As.reverse ++ .ref (ad k) :: rest) (hroom : (rest.map fun v => v.category).sum ≤ 8) (hdg : decode cc pc = .ok (.invokeinterface idx cnt, 5)) (hf : cells + (η'.2.1 - η.2.1) ≤ R.cells ∧ slots + (η'.2.2 - η.2.2) ≤ R.slots)
    (kk : ∀ H1 locs1, GW η'.1 (ksOf η') ad dc D A s σ' H1 locs1 → EA ad dc A s n0 z0 η' (cells + (η'.2.1 - η.2.1)) (slots + (η'.2.2 - η.2.2)) → W p l e R s m args below meth c H1 locs1 (cells + (η'.2.1 - η.2.1)) (slots + (η'.2.2 - η.2.2)) Q (F0 m (pc + 5) ls (.ref (ad r0) :: rest))) : W p l e R s m args below meth c H locs cells slots Q (F0 m pc ls st0) := by
  refine W_size fun hsz => ?_
  refine va_callFr (va_runF (C0.2.2.2.2.2.1.1 ci _ hc).2 ⟨C0.1, C0.2.1, C0.2.2.1, C0.2.2.2.1, C0.2.2.2.2.1⟩ hM cw (a_preV C0 G E hsz hc hk hs) rfl rfl hl.1 hst (lv_room hroom) hdg hf) G.2.1 (fun _ _ h => h) (fun _ h => h) (fun u ra t H1 locs1 ht hvm hr hB hz hk1 hS => ?_)
  obtain ⟨rfl, hB⟩ := hB
  obtain ⟨G1, E1⟩ := a_back (σ' := σ') G E hx (ht ▸ hB) hS
  exact kk H1 locs1 G1 E1
end LROW
