/-! the law's start: what the tables and the Statement give (by wip/gen/gen_s.py) -/
set_option maxRecDepth 100000
theorem axc {α : Nat → Type} {r : (x : Nat) → α x → Prop} (h : ∀ x, ∃ y, r x y) : ∃ f : (x : Nat) → α x, ∀ x, r x (f x) := ⟨fun x => Classical.choose (h x), fun x => Classical.choose_spec (h x)⟩
theorem s_cls {s : State} {args : Array Value} (hts : ∀ w ∈ lw_all, w.before args s = true) : ∃ D : va_G, ∀ (c : Nat) (q : vw_C), vwCl[c]? = some q → u_Kn s q.1 q.2.1 q.2.2 (D.1 c) (D.2 c) := by
  have h : ∀ c : Nat, ∃ d : ClassId × (Nat → Nat), ∀ q : vw_C, vwCl[c]? = some q → u_Kn s q.1 q.2.1 q.2.2 d.1 d.2 := by
    intro c
    cases hq : vwCl[c]? with
    | none => exact ⟨(0, fun _ => 0), fun q h => by cases h⟩
    | some r =>
      have hm : r ∈ vwCl := List.mem_of_getElem? hq
      have hk : ∃ (cC : ClassId) (iS : Nat → Nat), u_Kn s r.1 r.2.1 r.2.2 cC iS := by
        simp only [List.mem_cons, List.not_mem_nil, or_false] at hm
        rcases hm with rfl | rfl | rfl | rfl | rfl | rfl | rfl | rfl | rfl | rfl | rfl | rfl | rfl | rfl | rfl | rfl | rfl | rfl | rfl | rfl | rfl | rfl | rfl | rfl | rfl | rfl
        · exact u_known hts in_X0 (hts _ q150)
        · exact u_known hts in_X1 (hts _ q158)
        · exact u_known hts in_X2 (hts _ q229)
        · exact u_known hts in_X3 (hts _ q326)
        · exact u_known hts in_X4 (hts _ q392)
        · exact u_known hts in_X5 (hts _ q407)
        · exact u_known hts in_X6 (hts _ q1508)
        · exact u_known hts in_X7 (hts _ q743)
        · exact u_known hts in_X8 (hts _ q791)
        · exact u_known hts in_X10 (hts _ q876)
        · exact u_known hts in_X12 (hts _ q901)
        · exact u_known hts in_X13 (hts _ q935)
        · exact u_known hts in_X14 (hts _ q947)
        · exact u_known hts in_X15 (hts _ q959)
        · exact u_known hts in_X16 (hts _ q969)
        · exact u_known hts in_X17 (hts _ q1013)
        · exact u_known hts in_X18 (hts _ q1023)
        · exact u_known hts in_X19 (hts _ q1033)
        · exact u_known hts in_X20 (hts _ q1043)
        · exact u_known hts in_X21 (hts _ q1054)
        · exact u_known hts in_X23 (hts _ q1087)
        · exact u_known hts in_X24 (hts _ q1106)
        · exact u_known hts in_X25 (hts _ q1117)
        · exact u_known hts in_X26 (hts _ q1467)
        · exact u_known hts in_J2 (hts _ q164)
        · exact u_known hts in_J7 (hts _ q656)
      obtain ⟨cC, iS, hk⟩ := hk
      exact ⟨(cC, iS), fun q h => by cases h; exact hk⟩
  obtain ⟨f, hf⟩ := axc (α := fun _ => ClassId × (Nat → Nat)) h
  exact ⟨(fun c => (f c).1, fun c => (f c).2), fun c q hq => hf c q hq⟩
theorem s_arr {s : State} {args : Array Value} {ty : FieldType} (h : (Cond.arrayClass ty).before args s = true) : ∃ cA, ArrOfT s cA ty ∧ s.vm.findClass ("[" ++ ty.toString) = some cA := by
  obtain ⟨c, k, comp, h1, h2, h3⟩ := Cond.arrayClass_spec h
  exact ⟨c, fun n z => ⟨fun k h => (by cases h), k, h2, comp, h3⟩, h1⟩
theorem s_obj {s : State} {args : Array Value} {C : String} (h : (Cond.arrayOver (.object C)).before args s = true) : ∃ cA, ArrOfT s cA (.object C) ∧ va_RA s cA (.object C) := by
  obtain ⟨comp, c, k, h1, h2, h3, h4, h5⟩ := Cond.arrayOver_spec h
  exact ⟨c, fun n z => ⟨fun k h => (by cases h), k, h3, comp, h4⟩, k, comp, h3, h4, h1, h5⟩
theorem s_tys {s : State} {b : Nat} (hb0 : ∀ w ∈ lw_tbl, w.before #[Value.ref b] s = true) (hts : ∀ w ∈ lw_all, w.before #[Value.ref b] s = true) : ∃ c0 c1 c2 c3 c4 : ClassId, ∀ dc : Nat → ClassId, dc 0 = c0 → dc 1 = c1 → dc 2 = c2 → dc 3 = c3 → dc 4 = c4 → ∀ (k : Nat) (q : ClassId × FieldType), (tysOf dc)[k]? = some q → ArrOfT s q.1 q.2 ∧ va_RA s q.1 q.2 := by
  obtain ⟨c0, a0, f0⟩ := s_arr (hts _ q191)
  obtain ⟨c1, a1, f1⟩ := s_arr (hts _ q324)
  obtain ⟨c2, a2, f2⟩ := s_arr (hts _ q1716)
  obtain ⟨c3, a3, f3⟩ := s_obj (hb0 _ q176)
  obtain ⟨c4, a4, f4⟩ := s_obj (hb0 _ q227)
  refine ⟨c0, c1, c2, c3, c4, fun dc e0 e1 e2 e3 e4 k q hq => ?_⟩
  have hm : q ∈ tysOf dc := List.mem_of_getElem? hq
  simp only [List.mem_cons, List.not_mem_nil, or_false] at hm
  rcases hm with rfl | rfl | rfl | rfl | rfl
  · rw [e0]; exact ⟨a0, f0⟩
  · rw [e1]; exact ⟨a1, f1⟩
  · rw [e2]; exact ⟨a2, f2⟩
  · rw [e3]; exact ⟨a3, f3⟩
  · rw [e4]; exact ⟨a4, f4⟩
theorem s_fw {s : State} {b : Nat} (hb0 : ∀ w ∈ lw_tbl, w.before #[Value.ref b] s = true) (hts : ∀ w ∈ lw_all, w.before #[Value.ref b] s = true) : va_Fw "java/util/ArrayList" yColl yJ2_toArray s := va_Fw.of (hb0 _ q529) (hb0 _ q528) (hb0 _ q534) (hb0 _ q532) (hb0 _ q530)
def sTm (i : Nat) : Term := .string "HotIron$Reader" ((sTab.getD i (0, "")).1)
abbrev gvL : List Cond := flatC (Jvm.Cond.and given_1 narrow_1)
theorem s_ex : ∀ i : Nat, i < 27 → Cond.exactly (sTm i) "java/lang/String" ∈ gvL := by
  have h : (List.range 27).all (fun i => gvL.contains (Cond.exactly (sTm i) "java/lang/String")) = true := by decide +kernel
  intro i hi
  exact List.contains_iff_mem.mp (List.all_eq_true.mp h i (List.mem_range.mpr hi))
theorem s_co : ∀ i : Nat, i < 27 → Cond.eq (.field (sTm i) "java/lang/String" "coder" "B") (.int 0) ∈ gvL := by
  have h : (List.range 27).all (fun i => gvL.contains (Cond.eq (.field (sTm i) "java/lang/String" "coder" "B") (.int 0))) = true := by decide +kernel
  intro i hi
  exact List.contains_iff_mem.mp (List.all_eq_true.mp h i (List.mem_range.mpr hi))
theorem s_va : ∀ i : Nat, i < 27 → Cond.arrayOf (.field (sTm i) "java/lang/String" "value" "[B") .byte ∈ gvL := by
  have h : (List.range 27).all (fun i => gvL.contains (Cond.arrayOf (.field (sTm i) "java/lang/String" "value" "[B") .byte)) = true := by decide +kernel
  intro i hi
  exact List.contains_iff_mem.mp (List.all_eq_true.mp h i (List.mem_range.mpr hi))
theorem s_le : ∀ i : Nat, i < 27 → Cond.eq (.length (.field (sTm i) "java/lang/String" "value" "[B")) (.int (Int32.ofNat (sLen.getD i 0))) ∈ gvL := by
  have h : (List.range 27).all (fun i => gvL.contains (Cond.eq (.length (.field (sTm i) "java/lang/String" "value" "[B")) (.int (Int32.ofNat (sLen.getD i 0))))) = true := by decide +kernel
  intro i hi
  exact List.contains_iff_mem.mp (List.all_eq_true.mp h i (List.mem_range.mpr hi))
theorem s_el : ∀ i : Nat, i < 27 → ∀ j : Nat, j < sLen.getD i 0 → Cond.eq (.elem (.field (sTm i) "java/lang/String" "value" "[B") (.int (Int32.ofNat j))) (.int ((sByt.getD i []).getD j 0)) ∈ gvL := by
  have h : (List.range 27).all (fun i => (List.range (sLen.getD i 0)).all (fun j => gvL.contains (Cond.eq (.elem (.field (sTm i) "java/lang/String" "value" "[B") (.int (Int32.ofNat j))) (.int ((sByt.getD i []).getD j 0))))) = true := by decide +kernel
  intro i hi j hj
  exact List.contains_iff_mem.mp (List.all_eq_true.mp (List.all_eq_true.mp h i (List.mem_range.mpr hi)) j (List.mem_range.mpr hj))
theorem s_df : ∀ i j : Nat, i < 27 → j < 27 → i ≠ j → sLen.getD i 0 = sLen.getD j 0 → ∃ k, k < sLen.getD i 0 ∧ (sByt.getD i []).getD k 0 ≠ (sByt.getD j []).getD k 0 := by
  have h : (List.range 27).all (fun i => (List.range 27).all (fun j => i == j || sLen.getD i 0 != sLen.getD j 0 || (List.range (sLen.getD i 0)).any (fun k => (sByt.getD i []).getD k 0 != (sByt.getD j []).getD k 0))) = true := by decide +kernel
  intro i j hi hj hne he
  have h2 := List.all_eq_true.mp (List.all_eq_true.mp h i (List.mem_range.mpr hi)) j (List.mem_range.mpr hj)
  simp only [Bool.or_eq_true, beq_iff_eq, bne_iff_ne, List.any_eq_true, List.mem_range] at h2
  rcases h2 with (q | q) | ⟨k, hk, q⟩
  · exact absurd q hne
  · exact absurd he q
  · exact ⟨k, hk, q⟩
theorem s_lt : ∀ i : Nat, i < 27 → sLen.getD i 0 < 2 ^ 31 := by decide +kernel
theorem s_gv {c : Cond} {s : State} {b : Nat} (hgv : (Jvm.Cond.and given_1 narrow_1).before #[Value.ref b] s = true) (h : c ∈ gvL) : c.before #[Value.ref b] s = true := flat_of_before _ hgv c h
theorem s_ne {s : State} {b : Nat} (hgv : (Jvm.Cond.and given_1 narrow_1).before #[Value.ref b] s = true) : ∀ i j : Nat, i < 27 → j < 27 → i ≠ j → (Cond.not (Cond.eq (sTm i) (sTm j))).before #[Value.ref b] s = true := by
  intro i j hi hj hne
  obtain ⟨a1, -, -, -, e1, -⟩ := Cond.exactly_spec (s_gv hgv (s_ex i hi))
  obtain ⟨a2, -, -, -, e2, -⟩ := Cond.exactly_spec (s_gv hgv (s_ex j hj))
  by_cases ha : a1 = a2
  · exfalso
    have el : (Term.length (.field (sTm i) "java/lang/String" "value" "[B")).eval #[Value.ref b] s none [] s = (Term.length (.field (sTm j) "java/lang/String" "value" "[B")).eval #[Value.ref b] s none [] s := by
      simp only [Term.eval, e1, e2, ha]
    rw [Cond.eq_int (s_gv hgv (s_le i hi)) rfl, Cond.eq_int (s_gv hgv (s_le j hj)) rfl] at el
    have hl : sLen.getD i 0 = sLen.getD j 0 := by
      have h := Int32.toInt_inj.mpr (Value.int.inj (Option.some.inj el))
      rw [Int32.toInt_ofNat_of_lt (s_lt i hi), Int32.toInt_ofNat_of_lt (s_lt j hj)] at h
      omega
    obtain ⟨k, hk, hb⟩ := s_df i j hi hj hne hl
    have ee : (Term.elem (.field (sTm i) "java/lang/String" "value" "[B") (.int (Int32.ofNat k))).eval #[Value.ref b] s none [] s = (Term.elem (.field (sTm j) "java/lang/String" "value" "[B") (.int (Int32.ofNat k))).eval #[Value.ref b] s none [] s := by
      simp only [Term.eval, e1, e2, ha]
    rw [Cond.eq_int (s_gv hgv (s_el i hi k hk)) rfl, Cond.eq_int (s_gv hgv (s_el j hj k (hl ▸ hk))) rfl] at ee
    exact hb (Value.int.inj (Option.some.inj ee))
  · simp [Cond.before, Cond.holds, Cond.value, e1, e2, ha]
theorem s_sr {s : State} {b : Nat} (hb0 : ∀ w ∈ lw_tbl, w.before #[Value.ref b] s = true) (hts : ∀ w ∈ lw_all, w.before #[Value.ref b] s = true) : ∀ (i : Nat) (q : Nat × String), sTab[i]? = some q → (Cond.stringRef "HotIron$Reader" q.1 q.2).before #[Value.ref b] s = true := by
  intro i q hq
  have hm : q ∈ sTab := List.mem_of_getElem? hq
  simp only [sTab, List.mem_cons, List.not_mem_nil, or_false] at hm
  rcases hm with rfl | rfl | rfl | rfl | rfl | rfl | rfl | rfl | rfl | rfl | rfl | rfl | rfl | rfl | rfl | rfl | rfl | rfl | rfl | rfl | rfl | rfl | rfl | rfl | rfl | rfl | rfl
  · exact (hb0 _ q818)
  · exact (hb0 _ q885)
  · exact (hb0 _ q890)
  · exact (hb0 _ q891)
  · exact (hb0 _ q892)
  · exact (hb0 _ q893)
  · exact (hb0 _ q894)
  · exact (hb0 _ q895)
  · exact (hb0 _ q917)
  · exact (hb0 _ q944)
  · exact (hb0 _ q945)
  · exact (hb0 _ q966)
  · exact (hb0 _ q967)
  · exact (hb0 _ q1011)
  · exact (hb0 _ q1021)
  · exact (hb0 _ q1031)
  · exact (hb0 _ q1041)
  · exact (hb0 _ q1051)
  · exact (hb0 _ q1052)
  · exact (hb0 _ q1065)
  · exact (hb0 _ q1078)
  · exact (hb0 _ q1083)
  · exact (hb0 _ q1084)
  · exact (hb0 _ q1085)
  · exact (hb0 _ q1115)
  · exact (hb0 _ q1144)
  · exact (hb0 _ q1145)
theorem s_zz {s : State} {b : Nat} (hb0 : ∀ w ∈ lw_tbl, w.before #[Value.ref b] s = true) (hts : ∀ w ∈ lw_all, w.before #[Value.ref b] s = true) (hgv : (Jvm.Cond.and given_1 narrow_1).before #[Value.ref b] s = true) : ∃ adK adV : Nat → Nat, ∀ (dc : Nat → ClassId) (A : Nat → Prop), (∀ i, i < 27 → dc (20 + i) = adK i) → (∀ i, i < 27 → dc (60 + i) = adV i) → (∀ a : Nat, a < s.heap.size → ¬ A a) → ZZ dc A s s.heap := by
  obtain ⟨adK, adV, hS, hE⟩ := vk_Sof (N := 27) (tm := sTm) (len := sLen) (byt := sByt) (A := fun q => s.heap.size ≤ q) s_lt (fun i hi => s_gv hgv (s_ex i hi)) (fun i hi => s_gv hgv (s_co i hi)) (fun i hi => s_gv hgv (s_va i hi)) (fun i hi => s_gv hgv (s_le i hi)) (fun i hi j hj => s_gv hgv (s_el i hi j hj)) (fun i j hi hj hn => Or.inl (s_ne hgv i j hi hj hn)) (fun a ha => Nat.not_le.mpr ha)
  refine ⟨adK, adV, fun dc A h1 h2 hA => ⟨⟨?_, ?_⟩, ?_, ?_, ?_, ?_⟩⟩
  · exact vx_Zqof (hb0 _ q673) (hts _ q115) (s_gv hgv (by decide +kernel)) hA
  · exact vx_Zqof (hb0 _ q675) (hts _ q115) (s_gv hgv (by decide +kernel)) hA
  · refine ⟨fun i hi => ?_, fun i j hi hj e => ?_⟩
    · have h9 := (hS.narrow (B := A) (fun q h => Nat.not_lt.mp fun z => hA q z h)).1 i hi
      rw [← h1 i hi, ← h2 i hi] at h9
      exact h9
    · have e : dc (20 + i) = dc (20 + j) := e
      rw [h1 i hi, h1 j hj] at e
      exact hS.2 i j hi hj e
  · intro i q hi
    have hi27 : i < 27 := (List.getElem?_eq_some_iff.mp hi).1
    rw [h1 i hi27]
    refine vk_R.of (s_sr hb0 hts i q hi) ?_
    have h := hE i hi27
    have e : sTm i = .string "HotIron$Reader" q.1 := by unfold sTm; rw [List.getD_eq_getElem?_getD, hi]; rfl
    rw [e] at h
    exact h
  · exact va_Zof (hb0 _ q836) (hts _ q120) (Cond.eq_int (b := .int 1) (n := 1) (s_gv hgv (by decide +kernel)) rfl) hA
  · exact va_Zqof (hb0 _ q852) (hts _ q125) (s_gv hgv (by decide +kernel)) hA
def dcF (c0 c1 c2 c3 c4 mi : ClassId) (K V : Nat → Nat) (k : Nat) : ClassId := if k = 0 then c0 else if k = 1 then c1 else if k = 2 then c2 else if k = 3 then c3 else if k = 4 then c4 else if k = 9 then mi else if k < 60 then K (k - 20) else V (k - 60)
theorem s_all {p : Program} {s : State} {m : MethodId} {meth : Method} {c : Code} {b L : Nat} {xs : Nat → Int32} (C0 : lw_At p s m meth c b L xs) : ∃ (dc : Nat → ClassId) (D : va_G), LC dc D p s m #[Value.ref b] meth c b L xs ∧ ∀ A : Nat → Prop, (∀ a : Nat, a < s.heap.size → ¬ A a) → ZZ dc A s s.heap := by
  obtain ⟨hx, hb, hr, hml, hown, hb0, hX, hbl, hlocks, hgv⟩ := C0
  have hts : ∀ w ∈ lw_all, w.before #[Value.ref b] s = true := fun w h => hb0 w (lw_all_tbl h)
  obtain ⟨D, hD⟩ := s_cls hts
  obtain ⟨c0, c1, c2, c3, c4, hT⟩ := s_tys hb0 hts
  obtain ⟨mi, hmi⟩ := va_Mi.of (C := "[Ljava/lang/Object;") (s_gv hgv (by decide +kernel))
  obtain ⟨K, V, hZ⟩ := s_zz hb0 hts hgv
  refine ⟨dcF c0 c1 c2 c3 c4 mi K V, D, ⟨hx, hb, hml, hown, hts, ⟨hD, hT _ rfl rfl rfl rfl rfl⟩, ⟨fun w hw hr => va_Nw.of (ride_on hr) (hb0 w hw), va_AO.of (hb0 _ q176), va_AO.of (hb0 _ q227), hmi, s_fw hb0 hts⟩, hX, hbl, hlocks⟩, fun A hA => hZ _ A (fun i hi => ?_) (fun i hi => ?_) hA⟩
  · unfold dcF
    rw [if_neg (by omega), if_neg (by omega), if_neg (by omega), if_neg (by omega), if_neg (by omega), if_neg (by omega), if_pos (by omega)]
    congr 1
    omega
  · unfold dcF
    rw [if_neg (by omega), if_neg (by omega), if_neg (by omega), if_neg (by omega), if_neg (by omega), if_neg (by omega), if_neg (by omega)]
    congr 1
    omega
