/-! the two constructors run: the law as far as its loop -/
set_option maxRecDepth 100000
def st0 : St := (fun _ _ => 0, fun _ _ => 0, fun _ _ => 0, fun _ _ => none)
def eta0 : Eta := (fun _ => (9, 0, 0, []), 0, 0)
noncomputable def rX : Option (St × Eta) := fX0_init 0 (aS st0 0) (aE eta0 xD0 20)
noncomputable def sX : St := (rX.getD (st0, eta0)).1
noncomputable def eX : Eta := (rX.getD (st0, eta0)).2
theorem rX_e : rX = some (sX, eX) := by
  have h : rX.isSome = true := by decide +kernel
  unfold sX eX
  cases hr : rX with
  | none => rw [hr] at h; cases h
  | some q => rfl
theorem eX_n : eX.2.1 = 54 := by decide +kernel
theorem eX_z : Nat.ble eX.2.2 720000 = true := by decide +kernel
noncomputable def rM : Option (St × Eta) := fX6_init 54 (aS sX 54) (aE eX xD6 67)
noncomputable def sM : St := (rM.getD (st0, eta0)).1
noncomputable def eM : Eta := (rM.getD (st0, eta0)).2
theorem rM_e : rM = some (sM, eM) := by
  have h : rM.isSome = true := by decide +kernel
  unfold sM eM
  cases hr : rM with
  | none => rw [hr] at h; cases h
  | some q => rfl
theorem eM_n : eM.2.1 = 85 := by decide +kernel
theorem eM_z : Nat.ble eM.2.2 1200000 = true := by decide +kernel
/-- fields as they came to be (q) and as they are taken for good (r) -/
def okF (σ : St) (o c : Nat) : Nat → List (Nat × Nat) → List (Nat × Nat) → Bool
  | _, [], [] => true
  | j, (a, b) :: qs, (k, d) :: rs => (if k = 2 then a == 3 && gR σ c j == some (o + d) else a == k && b == d && (decide (k < 3) || o == 0)) && okF σ o c (j + 1) qs rs
  | _, _, _ => false
def okSh (σ : St) (o c : Nat) (q r : Sh) : Bool := q.1 == r.1 && q.2.1 == r.2.1 && q.2.2.1 == r.2.2.1 && (if q.1 = 0 then okF σ o c 0 q.2.2.2 r.2.2.2 else q.2.2.2 == r.2.2.2 && (q.1 == 1 || (q.1 == 2 && o == 0)))
def shS (o : Nat) (σ : St) : St := (fun c k => σ.1 (o + c) k, fun c k => σ.2.1 (o + c) k, fun c k => σ.2.2.1 (o + c) k, fun c k => σ.2.2.2 (o + c) k)
theorem shS0 (σ : St) : shS 0 σ = σ := by
  unfold shS
  simp only [Nat.zero_add]
theorem okF_at {σ : St} {o c : Nat} {ad adm : Nat → Nat} (ha : ∀ k, adm k = ad (o + k)) {σm : St} (hs : σm = shS o σ) {c0 : Nat} (hc : c = o + c0) : ∀ (q r : List (Nat × Nat)) (j : Nat), okF σ o c j q r = true → q.length = r.length ∧ ∀ (i : Nat) (f g : Nat × Nat), q[i]? = some f → r[i]? = some g → fvOf adm σm c0 (j + i) g = fvOf ad σ c (j + i) f
  | [], [], j, _ => ⟨rfl, fun i f g h => by simp at h⟩
  | [], g :: rs, j, h => by simp [okF] at h
  | f :: qs, [], j, h => by simp [okF] at h
  | (a, b) :: qs, (k, d) :: rs, j, h => by
    rw [okF, Bool.and_eq_true] at h
    obtain ⟨h1, h2⟩ := h
    obtain ⟨h3, h4⟩ := okF_at ha hs hc qs rs (j + 1) h2
    refine ⟨by simp [h3], fun i f g hf hg => ?_⟩
    cases i with
    | zero =>
      simp only [List.getElem?_cons_zero, Option.some.injEq] at hf hg
      subst hf
      subst hg
      subst hs
      subst hc
      rw [Nat.add_zero]
      by_cases hk : k = 2
      · rw [if_pos hk, Bool.and_eq_true, beq_iff_eq, beq_iff_eq] at h1
        obtain ⟨e1, e2⟩ := h1
        subst hk
        subst e1
        show Value.ref (adm d) = va_rf ((gR σ (o + c0) j).map ad)
        rw [e2, ha]
        rfl
      · rw [if_neg hk, Bool.and_eq_true, Bool.and_eq_true, beq_iff_eq, beq_iff_eq, Bool.or_eq_true, decide_eq_true_eq, beq_iff_eq] at h1
        obtain ⟨⟨e1, e2⟩, e3⟩ := h1
        subst e1
        subst e2
        rcases e3 with e3 | e3
        · match a, hk, e3 with
          | 0, _, _ => rfl
          | 1, _, _ => rfl
          | 2, hk, _ => exact absurd rfl hk
          | n + 3, _, e3 => exact absurd e3 (by omega)
        · subst e3
          have e9 : adm = ad := funext fun k => by rw [ha, Nat.zero_add]
          rw [e9, shS0, Nat.zero_add]
    | succ i =>
      simp only [List.getElem?_cons_succ] at hf hg
      have h5 := h4 i f g hf hg
      rw [show j + 1 + i = j + (i + 1) by omega] at h5
      exact h5
theorem ce_okSh {σ : St} {o c0 : Nat} {ad adm : Nat → Nat} {dc : Nat → ClassId} {q r : Sh} (ha : ∀ k, adm k = ad (o + k)) (h : okSh σ o (o + c0) q r = true) : ceOf adm dc (shS o σ) c0 r = ceOf ad dc σ (o + c0) q := by
  obtain ⟨q1, q2, q3, q4⟩ := q
  obtain ⟨r1, r2, r3, r4⟩ := r
  unfold okSh at h
  simp only [Bool.and_eq_true, beq_iff_eq] at h
  obtain ⟨⟨⟨e1, e2⟩, e3⟩, h⟩ := h
  subst e1
  subst e2
  subst e3
  by_cases h0 : q1 = 0
  · subst h0
    rw [if_pos rfl] at h
    obtain ⟨hl, hf⟩ := okF_at ha rfl rfl q4 r4 0 h
    rw [ce_o (q := (0, q2, q3, r4)) rfl, ce_o (q := (0, q2, q3, q4)) rfl]
    congr 2
    apply List.ext_getElem?
    intro i
    simp only [List.getElem?_mapIdx]
    cases hr : r4[i]? with
    | none =>
      have : q4[i]? = none := by
        rw [List.getElem?_eq_none_iff] at hr ⊢
        omega
      rw [this]
      rfl
    | some g =>
      have hi : i < q4.length := by
        have := (List.getElem?_eq_some_iff.mp hr).1
        omega
      rw [List.getElem?_eq_getElem hi]
      have h5 := hf i _ g (List.getElem?_eq_getElem hi) hr
      rw [Nat.zero_add] at h5
      simp only [Option.map_some]
      rw [h5]
  · rw [if_neg h0, Bool.and_eq_true, beq_iff_eq, Bool.or_eq_true, Bool.and_eq_true, beq_iff_eq, beq_iff_eq, beq_iff_eq] at h
    obtain ⟨e4, h⟩ := h
    subst e4
    rcases h with h | ⟨h, h9⟩
    · subst h
      rfl
    · subst h
      subst h9
      have e9 : adm = ad := funext fun k => by rw [ha, Nat.zero_add]
      rw [e9, shS0, Nat.zero_add]
theorem okX : (List.range 54).all (fun k => okSh sM 0 (0 + k) (eM.1 k) (xSh k) && (eM.1 k).1 != 9) = true := by decide +kernel
theorem okM : (List.range 31).all (fun k => okSh sM 54 (54 + k) (eM.1 (54 + k)) (mSh k) && (eM.1 (54 + k)).1 != 9) = true := by decide +kernel
/-- x's cells at the loop's head, its store the constructors' -/
def eta1 : Eta := (fun k => if k < 54 then xSh k else (9, 0, 0, []), 85, 0)
theorem xSh9 : ∀ k, k < 54 → (xSh k).1 ≠ 9 := by decide +kernel
theorem eta1_ks {k : Nat} (h : k ∈ ksOf eta1) : k < 54 := by
  have h2 := (ks_lt h).2
  rcases Nat.lt_or_ge k 54 with q | q
  · exact q
  · exact absurd (by show (if k < 54 then xSh k else (9, 0, 0, [])).1 = 9; rw [if_neg (by omega)]) h2
theorem eta1_wf : wfE eta1 := by
  intro k hk
  have hk : 85 ≤ k := hk
  show (if k < 54 then xSh k else (9, 0, 0, [])).1 = 9
  rw [if_neg (by omega)]
theorem eta1_at {k : Nat} (h : k < 54) : eta1.1 k = xSh k := if_pos h
theorem XOK_eta1 : XOK (ksOf eta1) eta1.1 := by
  refine ⟨fun k hk => ks_mem eta1_wf (by rw [eta1_at hk]; exact xSh9 k hk), fun k hk => eta1_at hk, fun k hk => ks_mem eta1_wf hk⟩
theorem law_start {p : Program} {e : Env} {s : State} {m : MethodId} {below : List Frame} {meth : Method} {c : Code} {Q : State → Prop} (l : Launch) {b L : Nat} {xs : Nat → Int32} (C0 : lw_At p s m meth c b L xs)
    (K : ∀ (dc : Nat → ClassId) (D : va_G) (base : Nat) (ad adm : Nat → Nat) (H : Heap) (locs : List Loc) (cells slots : Nat) (ls : Array Slot), LC dc D p s m #[Value.ref b] meth c b L xs → LW s base adm ad dc D sM eta1 (shS 54 sM) H locs → cells ≤ 85 → slots ≤ 1200000 → lv_has ls 4 [(0, .ref b), (1, .ref (ad 0)), (2, .ref (adm 0)), (3, .int 0)] → W p l e room_1 s m #[Value.ref b] below meth c H locs cells slots Q (F0 m 18 ls [])) :
    W p l e room_1 s m #[Value.ref b] below meth c s.heap [] 0 0 Q (entryFrame m ([Value.ref b] : List Value).toArray 4) := by
  obtain ⟨dc, D, LC0, hZ⟩ := s_all C0
  have ⟨hx, hb, hml, hown, hts, hK, hXN, hX, hbl, hlocks⟩ := LC0
  generalize hbase : s.heap.size = base
  let ad : Nat → Nat := fun k => base + k
  let adm : Nat → Nat := fun k => base + (54 + k)
  have hi : ∀ i j, ad i = ad j → i = j := fun i j h => by
    have h : base + i = base + j := h
    omega
  have C1 : Cx ad dc D "HotIronLaw" code 4 p s m #[Value.ref b] meth c := ⟨hx, hb, hml, hown, hts, hK, hi, hXN, hlocks⟩
  have G0 : GW eta0.1 (ksOf eta0) ad dc D (LA s) s st0 s.heap [] := ⟨fun k q h => by simp [wsOf, ksOf, eta0] at h, va_S.rf, ks_nd _, fun k h => by simp [ksOf, eta0] at h⟩
  have E0 : EA ad dc (LA s) s 0 0 eta0 0 0 := ⟨rfl, rfl, Or.inl rfl, fun _ _ => rfl, ⟨base, hbase, fun _ _ => rfl⟩, fun k _ => by show s.heap.size ≤ base + k; omega, hZ _ (fun a ha => Nat.not_le.mpr ha)⟩
  have hl := lv_entry ([.ref b]) (n := 4) (Nat.le_of_ble_eq_true rfl)
  rw [lg_entry_eq]
  generalize (lg_sl ([.ref b]) ++ List.replicate (4 - (lg_sl ([.ref b])).length) Slot.unset).toArray = ls at hl ⊢
  have hl : lv_has ls 4 [(0, .ref b)] := hl
  refine a_new C1 G0 E0 (ci := 0) (fl := xDf0) in_X0 tyX0_ok rfl q149 rfl q150 q105 fr_X0 (Nat.le_of_ble_eq_true rfl) (Nat.le_of_ble_eq_true rfl) dL_law_0 (fun H G E => ?_)
  refine lv_dup hx hb dL_law_3 rfl ?_
  have hrX : fX0_init 0 (aS st0 0) (aE eta0 xD0 20) = some (sX, eX) := rX_e
  have mX : EX (aE eta0 xD0 20) eX := mofX0_init hrX
  have nX := eX_n
  have zX : eX.2.2 ≤ 720000 := Nat.le_of_ble_eq_true eX_z
  have fX : 0 + 1 + (eX.2.1 - (aE eta0 xD0 20).2.1) ≤ room_1.cells ∧ 0 + 20 + (eX.2.2 - (aE eta0 xD0 20).2.2) ≤ room_1.slots := by
    refine ⟨?_, ?_⟩
    · show 0 + 1 + (eX.2.1 - 1) ≤ 1200384
      omega
    · show 0 + 20 + (eX.2.2 - 20) ≤ 5489834
      exact Nat.le_trans (Nat.add_le_add_left (Nat.le_trans (Nat.sub_le _ _) zX) _) (Nat.le_of_ble_eq_true rfl)
  refine a_callI (As := []) (rest := [.ref (ad eta0.2.1)]) C1 G E hl mX (kX0_init (l := l) hi G.2.2.2 hrX) (cwI 0 hts (lw_meth q153) rfl rfl rfl (hts _ q105) (hts _ q151) (hts _ q152) rfl hdX0_init ⟨Nat.le_of_ble_eq_true rfl, Nat.le_of_ble_eq_true rfl⟩) rfl (Nat.le_of_ble_eq_true rfl) dL_law_4 fX (fun H locs G E => ?_)
  refine lv_astore_n (lv' := [(1, .ref (ad 0)), (0, .ref b)]) hx hb dL_law_7 rfl hl (by decide) rfl (fun ls hl => ?_)
  have fN : 0 + 1 + (eX.2.1 - (aE eta0 xD0 20).2.1) + 1 ≤ room_1.cells := by
    show 0 + 1 + (eX.2.1 - 1) + 1 ≤ 1200384
    omega
  have fNz : 0 + 20 + (eX.2.2 - (aE eta0 xD0 20).2.2) + 67 ≤ room_1.slots := by
    show 0 + 20 + (eX.2.2 - 20) + 67 ≤ 5489834
    exact Nat.le_trans (Nat.add_le_add_right (Nat.add_le_add_left (Nat.le_trans (Nat.sub_le _ _) zX) _) _) (Nat.le_of_ble_eq_true rfl)
  refine a_new C1 G E (ci := 6) (fl := xDf6) in_X6 tyX6_ok rfl q1507 rfl q1508 q114 fr_X6 fN fNz dL_law_8 (fun H G E => ?_)
  refine lv_dup hx hb dL_law_11 rfl ?_
  have hrM : fX6_init eX.2.1 (aS sX eX.2.1) (aE eX xD6 67) = some (sM, eM) := by
    rw [nX]
    exact rM_e
  have mM : EX (aE eX xD6 67) eM := mofX6_init hrM
  have nM := eM_n
  have zM : eM.2.2 ≤ 1200000 := Nat.le_of_ble_eq_true eM_z
  have hE1 : (aE eX xD6 67).2.2 = 0 + (0 + 20 + (eX.2.2 - (aE eta0 xD0 20).2.2) + 67) := E.2.1
  have gz : (aE eX xD6 67).2.2 ≤ eM.2.2 := mM.2.1
  have fM : 0 + 1 + (eX.2.1 - (aE eta0 xD0 20).2.1) + 1 + (eM.2.1 - (aE eX xD6 67).2.1) ≤ 85 ∧ 0 + 20 + (eX.2.2 - (aE eta0 xD0 20).2.2) + 67 + (eM.2.2 - (aE eX xD6 67).2.2) ≤ 1200000 := by
    refine ⟨?_, ?_⟩
    · show 0 + 1 + (eX.2.1 - 1) + 1 + (eM.2.1 - (eX.2.1 + 1)) ≤ 85
      omega
    · rw [Nat.zero_add] at hE1
      rw [← hE1, Nat.add_sub_of_le gz]
      exact zM
  refine a_callI (As := []) (rest := [.ref (ad eX.2.1)]) C1 G E hl mM (kX6_init (l := l) hi G.2.2.2 hrM) (cwI 0 hts (lw_meth q1511) rfl rfl rfl (hts _ q114) (hts _ q1509) (hts _ q1510) rfl hdX6_init ⟨Nat.le_of_ble_eq_true rfl, Nat.le_of_ble_eq_true rfl⟩) rfl (Nat.le_of_ble_eq_true rfl) dL_law_12 ⟨Nat.le_trans fM.1 (Nat.le_of_ble_eq_true rfl), Nat.le_trans fM.2 (Nat.le_of_ble_eq_true rfl)⟩ (fun H locs G E => ?_)
  refine W_size fun hsz => ?_
  have hs9 : H.size = base + 85 := by
    have h9 := ea_size G E hsz
    rw [nM] at h9
    exact h9
  refine lv_astore_n (lv' := [(2, .ref (ad eX.2.1)), (1, .ref (ad 0)), (0, .ref b)]) hx hb dL_law_15 rfl hl (by decide) rfl (fun ls hl => ?_)
  refine lv_iconst (v := 0) hx hb dL_law_16 (by decide +kernel) ?_
  refine lv_istore_n (lv' := [(3, .int 0), (2, .ref (ad eX.2.1)), (1, .ref (ad 0)), (0, .ref b)]) hx hb dL_law_17 rfl hl (by decide) rfl (fun ls hl => ?_)
  rw [nX] at hl
  refine K dc D base ad adm H locs _ _ ls LC0 ?_ fM.1 fM.2 (lv_sub hl [3, 2, 1, 0] rfl)
  have hw := E.2.2.2.1
  refine ⟨?_, ?_, ⟨hi, fun i j h => ?_, fun k hk => ?_, fun k hk => ?_⟩, hs9, fun _ _ => rfl, eta1_wf, hZ _ (fun a ha h => absurd h.1 (Nat.not_le.mpr ha)), G.2.1⟩
  · intro i q hq
    obtain ⟨k, hk, rfl⟩ := wsOf_out hq
    have hk54 := eta1_ks (List.mem_of_getElem? hk)
    have h9 := List.all_eq_true.mp okX k (List.mem_range.mpr hk54)
    rw [Bool.and_eq_true, bne_iff_ne] at h9
    obtain ⟨i2, hi2⟩ := List.getElem?_of_mem (ks_mem hw h9.2)
    have h8 := G.1 i2 _ (wsOf_at hi2)
    have h7 := ce_okSh (dc := dc) (ad := ad) (adm := ad) (fun k => by rw [Nat.zero_add]) h9.1
    rw [shS0, Nat.zero_add] at h7
    rw [eta1_at hk54, h7]
    exact h8
  · intro i q hq
    obtain ⟨k, hk, rfl⟩ := wsOf_out hq
    have hk31 := List.mem_range.mp (List.mem_of_getElem? hk)
    have h9 := List.all_eq_true.mp okM k (List.mem_range.mpr hk31)
    rw [Bool.and_eq_true, bne_iff_ne] at h9
    obtain ⟨i2, hi2⟩ := List.getElem?_of_mem (ks_mem hw h9.2)
    have h8 := G.1 i2 _ (wsOf_at hi2)
    have h7 := ce_okSh (dc := dc) (ad := ad) (adm := adm) (fun k => rfl) h9.1
    rw [h7]
    exact h8
  · have h : base + (54 + i) = base + (54 + j) := h
    omega
  · show s.heap.size ≤ base + (54 + k)
    omega
  · have hk54 := eta1_ks hk
    refine ⟨?_, fun j hj h => ?_⟩
    · show s.heap.size ≤ base + k
      omega
    · have h : base + k = base + (54 + j) := h
      omega
