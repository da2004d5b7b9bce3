/-! the law's cases (by wip/gen/gen_l.py) -/
set_option maxRecDepth 100000
def PL_wide (PI : Nat → St → Eta → St → Prop) : Prop := ∀ (j : Nat) (a1 : Int32) (σ : St) (η : Eta) (σm : St), j < 64 → PI j σ η σm → ∃ (r : Int32) (σ' : St) (σm' : St), fX0_wide a1 σ = some (r, σ') ∧ fX6_wide a1 σm = some (r, σm') ∧ PI (j + 1) σ' η σm'
def PL_bar (PI : Nat → St → Eta → St → Prop) : Prop := ∀ (j : Nat) (a1 a2 : Int32) (σ : St) (η : Eta) (σm : St), j < 64 → PI j σ η σm → ∃ (r : Int32) (σ' : St) (σm' : St), fX0_bar a1 a2 σ = some (r, σ') ∧ fX6_bar a1 a2 σm = some (r, σm') ∧ PI (j + 1) σ' η σm'
def PL_shape (PI : Nat → St → Eta → St → Prop) : Prop := ∀ (j : Nat) (a1 a2 : Int32) (σ : St) (η : Eta) (σm : St), j < 64 → PI j σ η σm → ∃ (r : Int32) (σ' : St) (σm' : St), fX0_shape a1 a2 σ = some (r, σ') ∧ fX6_shape a1 a2 σm = some (r, σm') ∧ PI (j + 1) σ' η σm'
def PL_tongs (PI : Nat → St → Eta → St → Prop) : Prop := ∀ (j : Nat) (a1 : Int32) (σ : St) (η : Eta) (σm : St), j < 64 → PI j σ η σm → ∃ (r : Int32) (σ' : St) (σm' : St), fX0_tongs a1 σ = some (r, σ') ∧ fX6_tongs a1 σm = some (r, σm') ∧ PI (j + 1) σ' η σm'
def PL_terms (PI : Nat → St → Eta → St → Prop) : Prop := ∀ (j : Nat) (a1 a2 : Int32) (σ : St) (η : Eta) (σm : St), j < 64 → PI j σ η σm → ∃ (r : Int32) (σ' : St) (σm' : St), fX0_terms a1 a2 σ = some (r, σ') ∧ fX6_terms a1 a2 σm = some (r, σm') ∧ PI (j + 1) σ' η σm'
def PL_feed (PI : Nat → St → Eta → St → Prop) : Prop := ∀ (j : Nat) (a1 a2 a3 a4 a5 : Int32) (σ : St) (η : Eta) (σm : St), j < 64 → PI j σ η σm → ∃ (r : Int32) (σ' : St) (σm' : St), fX0_feed a1 a2 a3 a4 a5 σ = some (r, σ') ∧ fX6_feed a1 a2 a3 a4 a5 σm = some (r, σm') ∧ PI (j + 1) σ' η σm'
def PL_end (PI : Nat → St → Eta → St → Prop) : Prop := ∀ (j : Nat) (a1 : Int32) (σ : St) (η : Eta) (σm : St), j < 64 → PI j σ η σm → ∃ (r : Int32) (σ' : St) (σm' : St), fX0_end a1 σ = some (r, σ') ∧ fX6_end a1 σm = some (r, σm') ∧ PI (j + 1) σ' η σm'
def PL_row (PI : Nat → St → Eta → St → Prop) : Prop := ∀ (j : Nat) (σ : St) (η : Eta) (σm : St), j < 64 → PI j σ η σm → ∃ (r : Int32) (σ' : St) (η' : Eta) (σm' : St), fX0_row σ η = some (r, σ', η') ∧ fX6_row σm = some (r, σm') ∧ EX η η' ∧ η'.2.1 ≤ η.2.1 + 1 ∧ η'.2.2 ≤ η.2.2 + 40 ∧ PI (j + 1) σ' η' σm'
def PL_recipe (PI : Nat → St → Eta → St → Prop) : Prop := ∀ (j : Nat) (σ : St) (η : Eta) (σm : St), j < 64 → PI j σ η σm → ∃ (r : Int32) (σ' : St) (η' : Eta) (σm' : St), fX0_recipe σ η = some (r, σ', η') ∧ fX6_recipe σm = some (r, σm') ∧ EX η η' ∧ η'.2.1 + 4 ≤ η.2.1 + 18000 ∧ η'.2.2 + 200 ≤ η.2.2 + 60000 ∧ PI (j + 1) σ' η' σm'
def PL_fault (PI : Nat → St → Eta → St → Prop) : Prop := ∀ (j : Nat) (σ : St) (η : Eta) (σm : St), j < 64 → PI j σ η σm → ∃ (r : Int32) (σm' : St), fX0_fault σ = some r ∧ fX6_fault σm = some (r, σm') ∧ PI (j + 1) σ η σm'
def PL_steps (PI : Nat → St → Eta → St → Prop) : Prop := ∀ (j : Nat) (a1 : Int32) (σ : St) (η : Eta) (σm : St), j < 64 → PI j σ η σm → ∃ (r : Int32) (σm' : St), fX0_steps η.1 a1 σ = some r ∧ fX6_steps a1 σm = some (r, σm') ∧ PI (j + 1) σ η σm'
def PL_run (PI : Nat → St → Eta → St → Prop) : Prop := ∀ (j : Nat) (a1 : Int32) (σ : St) (η : Eta) (σm : St), j < 64 → PI j σ η σm → ∃ (r : Int32) (σ' : St) (σm' : St), fX0_run η.1 a1 σ = some (r, σ') ∧ fX6_run a1 σm = some (r, σm') ∧ PI (j + 1) σ' η σm'
def PL_came (PI : Nat → St → Eta → St → Prop) : Prop := ∀ (j : Nat) (a1 : Int32) (σ : St) (η : Eta) (σm : St), j < 64 → PI j σ η σm → ∃ (r : Int32) (σm' : St), fX0_came a1 σ = some r ∧ fX6_came a1 σm = some (r, σm') ∧ PI (j + 1) σ η σm'
def PL_iron (PI : Nat → St → Eta → St → Prop) : Prop := ∀ (j : Nat) (a1 : Int32) (σ : St) (η : Eta) (σm : St), j < 64 → PI j σ η σm → ∃ (r : Int32) (σm' : St), fX0_iron a1 σ = some r ∧ fX6_iron a1 σm = some (r, σm') ∧ PI (j + 1) σ η σm'
def PL_welds (PI : Nat → St → Eta → St → Prop) : Prop := ∀ (j : Nat) (a1 : Int32) (σ : St) (η : Eta) (σm : St), j < 64 → PI j σ η σm → ∃ (r : Int64) (σm' : St), fX0_welds a1 σ = some r ∧ fX6_welds a1 σm = some (r, σm') ∧ PI (j + 1) σ η σm'
def PL_heats (PI : Nat → St → Eta → St → Prop) : Prop := ∀ (j : Nat) (σ : St) (η : Eta) (σm : St), j < 64 → PI j σ η σm → ∃ (r : Int32) (σ' : St) (σm' : St), fX0_heats σ = some (r, σ') ∧ fX6_heats σm = some (r, σm') ∧ PI (j + 1) σ' η σm'
def PL_plan (PI : Nat → St → Eta → St → Prop) : Prop := ∀ (j : Nat) (a1 a2 : Int32) (σ : St) (η : Eta) (σm : St), j < 64 → PI j σ η σm → ∃ (r : Int32) (σ' : St) (σm' : St), fX0_plan a1 a2 σ = some (r, σ') ∧ fX6_plan a1 a2 σm = some (r, σm') ∧ PI (j + 1) σ' η σm'
def PL_reached (PI : Nat → St → Eta → St → Prop) : Prop := ∀ (j : Nat) (a1 : Int32) (σ : St) (η : Eta) (σm : St), j < 64 → PI j σ η σm → ∃ (r : Int32) (σ' : St) (σm' : St), fX0_reached a1 σ = some (r, σ') ∧ fX6_reached a1 σm = some (r, σm') ∧ PI (j + 1) σ' η σm'
def PL_even (PI : Nat → St → Eta → St → Prop) : Prop := ∀ (j : Nat) (σ : St) (η : Eta) (σm : St), j < 64 → PI j σ η σm → ∃ (r : Int32) (σ' : St) (σm' : St), fX0_even σ = some (r, σ') ∧ fX6_even σm = some (r, σm') ∧ PI (j + 1) σ' η σm'
def PL_change (PI : Nat → St → Eta → St → Prop) : Prop := ∀ (j : Nat) (a1 a2 : Int32) (σ : St) (η : Eta) (σm : St), j < 64 → PI j σ η σm → ∃ (r : Int32) (σ' : St) (σm' : St), fX0_change η.1 a1 a2 σ = some (r, σ') ∧ fX6_change a1 a2 σm = some (r, σm') ∧ PI (j + 1) σ' η σm'
def PL_made (PI : Nat → St → Eta → St → Prop) : Prop := ∀ (j : Nat) (a1 a2 a3 : Int32) (σ : St) (η : Eta) (σm : St), j < 64 → PI j σ η σm → ∃ (r : Int32) (σ' : St) (σm' : St), fX0_made η.1 a1 a2 a3 σ = some (r, σ') ∧ fX6_made a1 a2 a3 σm = some (r, σm') ∧ PI (j + 1) σ' η σm'
def PL_twelve (PI : Nat → St → Eta → St → Prop) : Prop := ∀ (j : Nat) (a1 a2 a3 a4 : Int32) (σ : St) (η : Eta) (σm : St), j < 64 → PI j σ η σm → ∃ (r : Int32) (σ' : St) (σm' : St), fX0_twelve η.1 a1 a2 a3 a4 σ = some (r, σ') ∧ fX6_twelve a1 a2 a3 a4 σm = some (r, σm') ∧ PI (j + 1) σ' η σm'
def PL_piece (PI : Nat → St → Eta → St → Prop) : Prop := ∀ (j : Nat) (a1 a2 : Int32) (σ : St) (η : Eta) (σm : St), j < 64 → PI j σ η σm → ∃ (r : Int32) (σ' : St) (η' : Eta) (σm' : St), fX0_piece_s0 a1 a2 σ η = some (r, σ', η') ∧ fX6_piece a1 a2 σm = some (r, σm') ∧ EX η η' ∧ η'.2.1 + 4 ≤ η.2.1 + 18000 ∧ η'.2.2 + 200 ≤ η.2.2 + 60000 ∧ PI (j + 1) σ' η' σm'
def PL_soonest (PI : Nat → St → Eta → St → Prop) : Prop := ∀ (j : Nat) (a1 a2 : Int32) (σ : St) (η : Eta) (σm : St), j < 64 → PI j σ η σm → ∃ (r : Int32) (σ' : St) (σm' : St), fX0_soonest η.1 a1 a2 σ = some (r, σ') ∧ fX6_soonest a1 a2 σm = some (r, σm') ∧ PI (j + 1) σ' η σm'
def PL_striker (PI : Nat → St → Eta → St → Prop) : Prop := ∀ (j : Nat) (σ : St) (η : Eta) (σm : St), j < 64 → PI j σ η σm → ∃ (r : Int32) (σ' : St) (σm' : St), fX0_striker σ = some (r, σ') ∧ fX6_striker σm = some (r, σm') ∧ PI (j + 1) σ' η σm'
def PL_image (PI : Nat → St → Eta → St → Prop) : Prop := ∀ (j : Nat) (a1 : Int32) (σ : St) (η : Eta) (σm : St), j < 64 → PI j σ η σm → ∃ (r : Int32) (σ' : St) (η' : Eta) (σm' : St), fX0_image_s0 a1 σ η = some (r, σ', η') ∧ fX6_image a1 σm = some (r, σm') ∧ EX η η' ∧ η'.2.1 + 4 ≤ η.2.1 + 18000 ∧ η'.2.2 + 200 ≤ η.2.2 + 60000 ∧ PI (j + 1) σ' η' σm'
def PL_back (PI : Nat → St → Eta → St → Prop) : Prop := ∀ (j : Nat) (a1 : Int32) (σ : St) (η : Eta) (σm : St), j < 64 → PI j σ η σm → ∃ (r : Int32) (σ' : St) (η' : Eta) (σm' : St), fX0_back_s0 a1 σ η = some (r, σ', η') ∧ fX6_back a1 σm = some (r, σm') ∧ EX η η' ∧ η'.2.1 + 4 ≤ η.2.1 + 18000 ∧ η'.2.2 + 200 ≤ η.2.2 + 60000 ∧ PI (j + 1) σ' η' σm'
def PL_count (PI : Nat → St → Eta → St → Prop) : Prop := ∀ (j : Nat) (a1 : Int32) (σ : St) (η : Eta) (σm : St), j < 64 → PI j σ η σm → ∃ (r : Int32) (σm' : St), fX0_count η.1 a1 σ = some r ∧ fX6_count a1 σm = some (r, σm') ∧ PI (j + 1) σ η σm'
def PL_status (PI : Nat → St → Eta → St → Prop) : Prop := ∀ (j : Nat) (σ : St) (η : Eta) (σm : St), j < 64 → PI j σ η σm → ∃ (r : Int32) (σm' : St), fX0_status σ = some r ∧ fX6_status σm = some (r, σm') ∧ PI (j + 1) σ η σm'
section LCS
variable {p : Program} {l : Launch} {e : Env} {s : State} {m : MethodId} {args : Array Value} {below : List Frame} {meth : Method} {c : Code} {H : Heap} {locs : List Loc} {cells slots : Nat} {Q : State → Prop}
variable {ad adm : Nat → Nat} {dc : Nat → ClassId} {D : va_G} {σ σm : St} {η : Eta} {base b L : Nat} {xs : Nat → Int32} {ls : Array Slot} {i : Int32}
variable {PI : Nat → St → Eta → St → Prop}
set_option maxHeartbeats 400000 in
theorem lc_wide (hfl : l.flags = flags0) (PB : ∀ j σ η σm n z, PI j σ η σm → η.2.1 ≤ n → PI j σ (η.1, n, z) σm) (PX : ∀ j σ η σm, PI j σ η σm → XOK (ksOf η) η.1) (PL : PL_wide PI) (C0 : LC dc D p s m args meth c b L xs) (Lw : LW s base adm ad dc D σ η σm H locs) {j : Nat} (hj : j < 64) (hP : PI j σ η σm) (hl : lv_has ls 4 [(0, .ref b), (1, .ref (ad 0)), (2, .ref (adm 0)), (3, .int i)]) (hi : ∀ k : Nat, k < 6 → vp_in (i + Int32.ofNat k) L) (hf : cells + 18000 ≤ room_1.cells ∧ slots + 60000 ≤ room_1.slots)
    (kk : ∀ σ' η' σm' H1 locs1 cells1 slots1, LW s base adm ad dc D σ' η' σm' H1 locs1 → PI (j + 1) σ' η' σm' → cells1 ≤ cells + 18000 → slots1 ≤ slots + 60000 → W p l e room_1 s m args below meth c H1 locs1 cells1 slots1 Q (F0 m 922 ls [])) : W p l e room_1 s m args below meth c H locs cells slots Q (F0 m 164 ls []) := by
  have hx := C0.1
  have hb := C0.2.1
  have hX := PX _ _ _ _ hP
  have hbA : ¬ LA s b := Nat.not_le.mpr C0.2.2.2.2.2.2.2.2.1
  have hXs := C0.2.2.2.2.2.2.2.1
  have hbl := C0.2.2.2.2.2.2.2.2.1
  have hi1 : vp_in (i + 1) L := hi 1 (by decide)
  obtain ⟨r, σ', σm', h1, h2, hP'⟩ := PL j (xs (i + 1).toNatClampNeg) _ _ _ hj hP
  refine lv_aload_n hx hb dL_law_164 rfl (lv_at hl 1 rfl) ?_
  refine lv_aload_n hx hb dL_law_165 rfl (lv_at hl 0 rfl) ?_
  refine lv_iload_n hx hb dL_law_166 rfl (lv_at hl 3 rfl) ?_
  refine lv_iconst (v := 1) hx hb dL_law_167 (by decide +kernel) ?_
  refine lv_iadd hx hb dL_law_168 ?_
  refine va_sld hx hb hXs hbl hbA Lw.vaS hi1 dL_law_169 ?_
  refine l_callG (rest := []) C0 Lw hl (hX.1 0 (by decide)) ((hX.2.1 0 (by decide)).trans rfl) (kX0_wide (l := l) Lw.2.2.1.1 (ks_nd η) Lw.2.2.1.2.2.2 hX h1) (cwV 1 C0.2.2.2.2.1 (lw_V q608 q609 q610 q105 q611) rfl rfl rfl hdX0_wide ⟨Nat.le_of_ble_eq_true rfl, Nat.le_of_ble_eq_true rfl⟩) rfl (Nat.le_of_ble_eq_true rfl) dL_law_170 ⟨Nat.le_trans (Nat.le_add_right _ _) hf.1, Nat.le_trans (Nat.le_add_right _ _) hf.2⟩ (fun H locs nn hnn Lw => ?_)
  have hP1 := PB _ _ _ _ nn η.2.2 hP' hnn
  refine lv_aload_n hx hb dL_law_173 rfl (lv_at hl 2 rfl) ?_
  refine lv_aload_n hx hb dL_law_174 rfl (lv_at hl 0 rfl) ?_
  refine lv_iload_n hx hb dL_law_175 rfl (lv_at hl 3 rfl) ?_
  refine lv_iconst (v := 1) hx hb dL_law_176 (by decide +kernel) ?_
  refine lv_iadd hx hb dL_law_177 ?_
  refine va_sld hx hb hXs hbl hbA Lw.vaS hi1 dL_law_178 ?_
  refine l_callM (rest := [.int r]) C0 Lw hl (kX6_wide (l := l) Lw.2.2.1.2.1 (fun k hk => Am_of hk) h2) (cwV 1 C0.2.2.2.2.1 (lw_V q1736 q1737 q1738 q114 q1739) rfl rfl rfl hdX6_wide ⟨Nat.le_of_ble_eq_true rfl, Nat.le_of_ble_eq_true rfl⟩) rfl (Nat.le_of_ble_eq_true rfl) dL_law_179 ⟨Nat.le_trans (Nat.le_add_right _ _) hf.1, Nat.le_trans (Nat.le_add_right _ _) hf.2⟩ (fun H locs n2 hn2 Lw => ?_)
  have hP2 := PB _ _ _ _ n2 η.2.2 hP1 hn2
  refine lv_icmp_eq (tgt := 922) hx hb dL_law_182 (by decide) (fun q => ?_) (fun q => absurd rfl q)
  exact kk _ _ _ H locs _ _ Lw hP2 (Nat.le_add_right _ _) (Nat.le_add_right _ _)
set_option maxHeartbeats 400000 in
theorem lc_bar (hfl : l.flags = flags0) (PB : ∀ j σ η σm n z, PI j σ η σm → η.2.1 ≤ n → PI j σ (η.1, n, z) σm) (PX : ∀ j σ η σm, PI j σ η σm → XOK (ksOf η) η.1) (PL : PL_bar PI) (C0 : LC dc D p s m args meth c b L xs) (Lw : LW s base adm ad dc D σ η σm H locs) {j : Nat} (hj : j < 64) (hP : PI j σ η σm) (hl : lv_has ls 4 [(0, .ref b), (1, .ref (ad 0)), (2, .ref (adm 0)), (3, .int i)]) (hi : ∀ k : Nat, k < 6 → vp_in (i + Int32.ofNat k) L) (hf : cells + 18000 ≤ room_1.cells ∧ slots + 60000 ≤ room_1.slots)
    (kk : ∀ σ' η' σm' H1 locs1 cells1 slots1, LW s base adm ad dc D σ' η' σm' H1 locs1 → PI (j + 1) σ' η' σm' → cells1 ≤ cells + 18000 → slots1 ≤ slots + 60000 → W p l e room_1 s m args below meth c H1 locs1 cells1 slots1 Q (F0 m 922 ls [])) : W p l e room_1 s m args below meth c H locs cells slots Q (F0 m 187 ls []) := by
  have hx := C0.1
  have hb := C0.2.1
  have hX := PX _ _ _ _ hP
  have hbA : ¬ LA s b := Nat.not_le.mpr C0.2.2.2.2.2.2.2.2.1
  have hXs := C0.2.2.2.2.2.2.2.1
  have hbl := C0.2.2.2.2.2.2.2.2.1
  have hi1 : vp_in (i + 1) L := hi 1 (by decide)
  have hi2 : vp_in (i + 2) L := hi 2 (by decide)
  obtain ⟨r, σ', σm', h1, h2, hP'⟩ := PL j (xs (i + 1).toNatClampNeg) (xs (i + 2).toNatClampNeg) _ _ _ hj hP
  refine lv_aload_n hx hb dL_law_187 rfl (lv_at hl 1 rfl) ?_
  refine lv_aload_n hx hb dL_law_188 rfl (lv_at hl 0 rfl) ?_
  refine lv_iload_n hx hb dL_law_189 rfl (lv_at hl 3 rfl) ?_
  refine lv_iconst (v := 1) hx hb dL_law_190 (by decide +kernel) ?_
  refine lv_iadd hx hb dL_law_191 ?_
  refine va_sld hx hb hXs hbl hbA Lw.vaS hi1 dL_law_192 ?_
  refine lv_aload_n hx hb dL_law_193 rfl (lv_at hl 0 rfl) ?_
  refine lv_iload_n hx hb dL_law_194 rfl (lv_at hl 3 rfl) ?_
  refine lv_iconst (v := 2) hx hb dL_law_195 (by decide +kernel) ?_
  refine lv_iadd hx hb dL_law_196 ?_
  refine va_sld hx hb hXs hbl hbA Lw.vaS hi2 dL_law_197 ?_
  refine l_callG (rest := []) C0 Lw hl (hX.1 0 (by decide)) ((hX.2.1 0 (by decide)).trans rfl) (kX0_bar (l := l) Lw.2.2.1.1 (ks_nd η) Lw.2.2.1.2.2.2 hX h1) (cwV 2 C0.2.2.2.2.1 (lw_V q612 q613 q614 q105 q615) rfl rfl rfl hdX0_bar ⟨Nat.le_of_ble_eq_true rfl, Nat.le_of_ble_eq_true rfl⟩) rfl (Nat.le_of_ble_eq_true rfl) dL_law_198 ⟨Nat.le_trans (Nat.le_add_right _ _) hf.1, Nat.le_trans (Nat.le_add_right _ _) hf.2⟩ (fun H locs nn hnn Lw => ?_)
  have hP1 := PB _ _ _ _ nn η.2.2 hP' hnn
  refine lv_aload_n hx hb dL_law_201 rfl (lv_at hl 2 rfl) ?_
  refine lv_aload_n hx hb dL_law_202 rfl (lv_at hl 0 rfl) ?_
  refine lv_iload_n hx hb dL_law_203 rfl (lv_at hl 3 rfl) ?_
  refine lv_iconst (v := 1) hx hb dL_law_204 (by decide +kernel) ?_
  refine lv_iadd hx hb dL_law_205 ?_
  refine va_sld hx hb hXs hbl hbA Lw.vaS hi1 dL_law_206 ?_
  refine lv_aload_n hx hb dL_law_207 rfl (lv_at hl 0 rfl) ?_
  refine lv_iload_n hx hb dL_law_208 rfl (lv_at hl 3 rfl) ?_
  refine lv_iconst (v := 2) hx hb dL_law_209 (by decide +kernel) ?_
  refine lv_iadd hx hb dL_law_210 ?_
  refine va_sld hx hb hXs hbl hbA Lw.vaS hi2 dL_law_211 ?_
  refine l_callM (rest := [.int r]) C0 Lw hl (kX6_bar (l := l) Lw.2.2.1.2.1 (fun k hk => Am_of hk) h2) (cwV 2 C0.2.2.2.2.1 (lw_V q1742 q1743 q1744 q114 q1745) rfl rfl rfl hdX6_bar ⟨Nat.le_of_ble_eq_true rfl, Nat.le_of_ble_eq_true rfl⟩) rfl (Nat.le_of_ble_eq_true rfl) dL_law_212 ⟨Nat.le_trans (Nat.le_add_right _ _) hf.1, Nat.le_trans (Nat.le_add_right _ _) hf.2⟩ (fun H locs n2 hn2 Lw => ?_)
  have hP2 := PB _ _ _ _ n2 η.2.2 hP1 hn2
  refine lv_icmp_eq (tgt := 922) hx hb dL_law_215 (by decide) (fun q => ?_) (fun q => absurd rfl q)
  exact kk _ _ _ H locs _ _ Lw hP2 (Nat.le_add_right _ _) (Nat.le_add_right _ _)
set_option maxHeartbeats 400000 in
theorem lc_shape (hfl : l.flags = flags0) (PB : ∀ j σ η σm n z, PI j σ η σm → η.2.1 ≤ n → PI j σ (η.1, n, z) σm) (PX : ∀ j σ η σm, PI j σ η σm → XOK (ksOf η) η.1) (PL : PL_shape PI) (C0 : LC dc D p s m args meth c b L xs) (Lw : LW s base adm ad dc D σ η σm H locs) {j : Nat} (hj : j < 64) (hP : PI j σ η σm) (hl : lv_has ls 4 [(0, .ref b), (1, .ref (ad 0)), (2, .ref (adm 0)), (3, .int i)]) (hi : ∀ k : Nat, k < 6 → vp_in (i + Int32.ofNat k) L) (hf : cells + 18000 ≤ room_1.cells ∧ slots + 60000 ≤ room_1.slots)
    (kk : ∀ σ' η' σm' H1 locs1 cells1 slots1, LW s base adm ad dc D σ' η' σm' H1 locs1 → PI (j + 1) σ' η' σm' → cells1 ≤ cells + 18000 → slots1 ≤ slots + 60000 → W p l e room_1 s m args below meth c H1 locs1 cells1 slots1 Q (F0 m 922 ls [])) : W p l e room_1 s m args below meth c H locs cells slots Q (F0 m 220 ls []) := by
  have hx := C0.1
  have hb := C0.2.1
  have hX := PX _ _ _ _ hP
  have hbA : ¬ LA s b := Nat.not_le.mpr C0.2.2.2.2.2.2.2.2.1
  have hXs := C0.2.2.2.2.2.2.2.1
  have hbl := C0.2.2.2.2.2.2.2.2.1
  have hi1 : vp_in (i + 1) L := hi 1 (by decide)
  have hi2 : vp_in (i + 2) L := hi 2 (by decide)
  obtain ⟨r, σ', σm', h1, h2, hP'⟩ := PL j (xs (i + 1).toNatClampNeg) (xs (i + 2).toNatClampNeg) _ _ _ hj hP
  refine lv_aload_n hx hb dL_law_220 rfl (lv_at hl 1 rfl) ?_
  refine lv_aload_n hx hb dL_law_221 rfl (lv_at hl 0 rfl) ?_
  refine lv_iload_n hx hb dL_law_222 rfl (lv_at hl 3 rfl) ?_
  refine lv_iconst (v := 1) hx hb dL_law_223 (by decide +kernel) ?_
  refine lv_iadd hx hb dL_law_224 ?_
  refine va_sld hx hb hXs hbl hbA Lw.vaS hi1 dL_law_225 ?_
  refine lv_aload_n hx hb dL_law_226 rfl (lv_at hl 0 rfl) ?_
  refine lv_iload_n hx hb dL_law_227 rfl (lv_at hl 3 rfl) ?_
  refine lv_iconst (v := 2) hx hb dL_law_228 (by decide +kernel) ?_
  refine lv_iadd hx hb dL_law_229 ?_
  refine va_sld hx hb hXs hbl hbA Lw.vaS hi2 dL_law_230 ?_
  refine l_callG (rest := []) C0 Lw hl (hX.1 0 (by decide)) ((hX.2.1 0 (by decide)).trans rfl) (kX0_shape (l := l) Lw.2.2.1.1 (ks_nd η) Lw.2.2.1.2.2.2 hX h1) (cwV 2 C0.2.2.2.2.1 (lw_V q627 q628 q629 q105 q630) rfl rfl rfl hdX0_shape ⟨Nat.le_of_ble_eq_true rfl, Nat.le_of_ble_eq_true rfl⟩) rfl (Nat.le_of_ble_eq_true rfl) dL_law_231 ⟨Nat.le_trans (Nat.le_add_right _ _) hf.1, Nat.le_trans (Nat.le_add_right _ _) hf.2⟩ (fun H locs nn hnn Lw => ?_)
  have hP1 := PB _ _ _ _ nn η.2.2 hP' hnn
  refine lv_aload_n hx hb dL_law_234 rfl (lv_at hl 2 rfl) ?_
  refine lv_aload_n hx hb dL_law_235 rfl (lv_at hl 0 rfl) ?_
  refine lv_iload_n hx hb dL_law_236 rfl (lv_at hl 3 rfl) ?_
  refine lv_iconst (v := 1) hx hb dL_law_237 (by decide +kernel) ?_
  refine lv_iadd hx hb dL_law_238 ?_
  refine va_sld hx hb hXs hbl hbA Lw.vaS hi1 dL_law_239 ?_
  refine lv_aload_n hx hb dL_law_240 rfl (lv_at hl 0 rfl) ?_
  refine lv_iload_n hx hb dL_law_241 rfl (lv_at hl 3 rfl) ?_
  refine lv_iconst (v := 2) hx hb dL_law_242 (by decide +kernel) ?_
  refine lv_iadd hx hb dL_law_243 ?_
  refine va_sld hx hb hXs hbl hbA Lw.vaS hi2 dL_law_244 ?_
  refine l_callM (rest := [.int r]) C0 Lw hl (kX6_shape (l := l) Lw.2.2.1.2.1 (fun k hk => Am_of hk) h2) (cwV 2 C0.2.2.2.2.1 (lw_V q1755 q1756 q1757 q114 q1758) rfl rfl rfl hdX6_shape ⟨Nat.le_of_ble_eq_true rfl, Nat.le_of_ble_eq_true rfl⟩) rfl (Nat.le_of_ble_eq_true rfl) dL_law_245 ⟨Nat.le_trans (Nat.le_add_right _ _) hf.1, Nat.le_trans (Nat.le_add_right _ _) hf.2⟩ (fun H locs n2 hn2 Lw => ?_)
  have hP2 := PB _ _ _ _ n2 η.2.2 hP1 hn2
  refine lv_icmp_eq (tgt := 922) hx hb dL_law_248 (by decide) (fun q => ?_) (fun q => absurd rfl q)
  exact kk _ _ _ H locs _ _ Lw hP2 (Nat.le_add_right _ _) (Nat.le_add_right _ _)
set_option maxHeartbeats 400000 in
theorem lc_tongs (hfl : l.flags = flags0) (PB : ∀ j σ η σm n z, PI j σ η σm → η.2.1 ≤ n → PI j σ (η.1, n, z) σm) (PX : ∀ j σ η σm, PI j σ η σm → XOK (ksOf η) η.1) (PL : PL_tongs PI) (C0 : LC dc D p s m args meth c b L xs) (Lw : LW s base adm ad dc D σ η σm H locs) {j : Nat} (hj : j < 64) (hP : PI j σ η σm) (hl : lv_has ls 4 [(0, .ref b), (1, .ref (ad 0)), (2, .ref (adm 0)), (3, .int i)]) (hi : ∀ k : Nat, k < 6 → vp_in (i + Int32.ofNat k) L) (hf : cells + 18000 ≤ room_1.cells ∧ slots + 60000 ≤ room_1.slots)
    (kk : ∀ σ' η' σm' H1 locs1 cells1 slots1, LW s base adm ad dc D σ' η' σm' H1 locs1 → PI (j + 1) σ' η' σm' → cells1 ≤ cells + 18000 → slots1 ≤ slots + 60000 → W p l e room_1 s m args below meth c H1 locs1 cells1 slots1 Q (F0 m 922 ls [])) : W p l e room_1 s m args below meth c H locs cells slots Q (F0 m 253 ls []) := by
  have hx := C0.1
  have hb := C0.2.1
  have hX := PX _ _ _ _ hP
  have hbA : ¬ LA s b := Nat.not_le.mpr C0.2.2.2.2.2.2.2.2.1
  have hXs := C0.2.2.2.2.2.2.2.1
  have hbl := C0.2.2.2.2.2.2.2.2.1
  have hi1 : vp_in (i + 1) L := hi 1 (by decide)
  obtain ⟨r, σ', σm', h1, h2, hP'⟩ := PL j (xs (i + 1).toNatClampNeg) _ _ _ hj hP
  refine lv_aload_n hx hb dL_law_253 rfl (lv_at hl 1 rfl) ?_
  refine lv_aload_n hx hb dL_law_254 rfl (lv_at hl 0 rfl) ?_
  refine lv_iload_n hx hb dL_law_255 rfl (lv_at hl 3 rfl) ?_
  refine lv_iconst (v := 1) hx hb dL_law_256 (by decide +kernel) ?_
  refine lv_iadd hx hb dL_law_257 ?_
  refine va_sld hx hb hXs hbl hbA Lw.vaS hi1 dL_law_258 ?_
  refine l_callG (rest := []) C0 Lw hl (hX.1 0 (by decide)) ((hX.2.1 0 (by decide)).trans rfl) (kX0_tongs (l := l) Lw.2.2.1.1 (ks_nd η) Lw.2.2.1.2.2.2 hX h1) (cwV 1 C0.2.2.2.2.1 (lw_V q631 q632 q633 q105 q634) rfl rfl rfl hdX0_tongs ⟨Nat.le_of_ble_eq_true rfl, Nat.le_of_ble_eq_true rfl⟩) rfl (Nat.le_of_ble_eq_true rfl) dL_law_259 ⟨Nat.le_trans (Nat.le_add_right _ _) hf.1, Nat.le_trans (Nat.le_add_right _ _) hf.2⟩ (fun H locs nn hnn Lw => ?_)
  have hP1 := PB _ _ _ _ nn η.2.2 hP' hnn
  refine lv_aload_n hx hb dL_law_262 rfl (lv_at hl 2 rfl) ?_
  refine lv_aload_n hx hb dL_law_263 rfl (lv_at hl 0 rfl) ?_
  refine lv_iload_n hx hb dL_law_264 rfl (lv_at hl 3 rfl) ?_
  refine lv_iconst (v := 1) hx hb dL_law_265 (by decide +kernel) ?_
  refine lv_iadd hx hb dL_law_266 ?_
  refine va_sld hx hb hXs hbl hbA Lw.vaS hi1 dL_law_267 ?_
  refine l_callM (rest := [.int r]) C0 Lw hl (kX6_tongs (l := l) Lw.2.2.1.2.1 (fun k hk => Am_of hk) h2) (cwV 1 C0.2.2.2.2.1 (lw_V q1759 q1760 q1761 q114 q1762) rfl rfl rfl hdX6_tongs ⟨Nat.le_of_ble_eq_true rfl, Nat.le_of_ble_eq_true rfl⟩) rfl (Nat.le_of_ble_eq_true rfl) dL_law_268 ⟨Nat.le_trans (Nat.le_add_right _ _) hf.1, Nat.le_trans (Nat.le_add_right _ _) hf.2⟩ (fun H locs n2 hn2 Lw => ?_)
  have hP2 := PB _ _ _ _ n2 η.2.2 hP1 hn2
  refine lv_icmp_eq (tgt := 922) hx hb dL_law_271 (by decide) (fun q => ?_) (fun q => absurd rfl q)
  exact kk _ _ _ H locs _ _ Lw hP2 (Nat.le_add_right _ _) (Nat.le_add_right _ _)
set_option maxHeartbeats 400000 in
theorem lc_terms (hfl : l.flags = flags0) (PB : ∀ j σ η σm n z, PI j σ η σm → η.2.1 ≤ n → PI j σ (η.1, n, z) σm) (PX : ∀ j σ η σm, PI j σ η σm → XOK (ksOf η) η.1) (PL : PL_terms PI) (C0 : LC dc D p s m args meth c b L xs) (Lw : LW s base adm ad dc D σ η σm H locs) {j : Nat} (hj : j < 64) (hP : PI j σ η σm) (hl : lv_has ls 4 [(0, .ref b), (1, .ref (ad 0)), (2, .ref (adm 0)), (3, .int i)]) (hi : ∀ k : Nat, k < 6 → vp_in (i + Int32.ofNat k) L) (hf : cells + 18000 ≤ room_1.cells ∧ slots + 60000 ≤ room_1.slots)
    (kk : ∀ σ' η' σm' H1 locs1 cells1 slots1, LW s base adm ad dc D σ' η' σm' H1 locs1 → PI (j + 1) σ' η' σm' → cells1 ≤ cells + 18000 → slots1 ≤ slots + 60000 → W p l e room_1 s m args below meth c H1 locs1 cells1 slots1 Q (F0 m 922 ls [])) : W p l e room_1 s m args below meth c H locs cells slots Q (F0 m 276 ls []) := by
  have hx := C0.1
  have hb := C0.2.1
  have hX := PX _ _ _ _ hP
  have hbA : ¬ LA s b := Nat.not_le.mpr C0.2.2.2.2.2.2.2.2.1
  have hXs := C0.2.2.2.2.2.2.2.1
  have hbl := C0.2.2.2.2.2.2.2.2.1
  have hi1 : vp_in (i + 1) L := hi 1 (by decide)
  have hi2 : vp_in (i + 2) L := hi 2 (by decide)
  obtain ⟨r, σ', σm', h1, h2, hP'⟩ := PL j (xs (i + 1).toNatClampNeg) (xs (i + 2).toNatClampNeg) _ _ _ hj hP
  refine lv_aload_n hx hb dL_law_276 rfl (lv_at hl 1 rfl) ?_
  refine lv_aload_n hx hb dL_law_277 rfl (lv_at hl 0 rfl) ?_
  refine lv_iload_n hx hb dL_law_278 rfl (lv_at hl 3 rfl) ?_
  refine lv_iconst (v := 1) hx hb dL_law_279 (by decide +kernel) ?_
  refine lv_iadd hx hb dL_law_280 ?_
  refine va_sld hx hb hXs hbl hbA Lw.vaS hi1 dL_law_281 ?_
  refine lv_aload_n hx hb dL_law_282 rfl (lv_at hl 0 rfl) ?_
  refine lv_iload_n hx hb dL_law_283 rfl (lv_at hl 3 rfl) ?_
  refine lv_iconst (v := 2) hx hb dL_law_284 (by decide +kernel) ?_
  refine lv_iadd hx hb dL_law_285 ?_
  refine va_sld hx hb hXs hbl hbA Lw.vaS hi2 dL_law_286 ?_
  refine l_callG (rest := []) C0 Lw hl (hX.1 0 (by decide)) ((hX.2.1 0 (by decide)).trans rfl) (kX0_terms (l := l) Lw.2.2.1.1 (ks_nd η) Lw.2.2.1.2.2.2 hX h1) (cwV 2 C0.2.2.2.2.1 (lw_V q635 q636 q637 q105 q638) rfl rfl rfl hdX0_terms ⟨Nat.le_of_ble_eq_true rfl, Nat.le_of_ble_eq_true rfl⟩) rfl (Nat.le_of_ble_eq_true rfl) dL_law_287 ⟨Nat.le_trans (Nat.le_add_right _ _) hf.1, Nat.le_trans (Nat.le_add_right _ _) hf.2⟩ (fun H locs nn hnn Lw => ?_)
  have hP1 := PB _ _ _ _ nn η.2.2 hP' hnn
  refine lv_aload_n hx hb dL_law_290 rfl (lv_at hl 2 rfl) ?_
  refine lv_aload_n hx hb dL_law_291 rfl (lv_at hl 0 rfl) ?_
  refine lv_iload_n hx hb dL_law_292 rfl (lv_at hl 3 rfl) ?_
  refine lv_iconst (v := 1) hx hb dL_law_293 (by decide +kernel) ?_
  refine lv_iadd hx hb dL_law_294 ?_
  refine va_sld hx hb hXs hbl hbA Lw.vaS hi1 dL_law_295 ?_
  refine lv_aload_n hx hb dL_law_296 rfl (lv_at hl 0 rfl) ?_
  refine lv_iload_n hx hb dL_law_297 rfl (lv_at hl 3 rfl) ?_
  refine lv_iconst (v := 2) hx hb dL_law_298 (by decide +kernel) ?_
  refine lv_iadd hx hb dL_law_299 ?_
  refine va_sld hx hb hXs hbl hbA Lw.vaS hi2 dL_law_300 ?_
  refine l_callM (rest := [.int r]) C0 Lw hl (kX6_terms (l := l) Lw.2.2.1.2.1 (fun k hk => Am_of hk) h2) (cwV 2 C0.2.2.2.2.1 (lw_V q1765 q1766 q1767 q114 q1768) rfl rfl rfl hdX6_terms ⟨Nat.le_of_ble_eq_true rfl, Nat.le_of_ble_eq_true rfl⟩) rfl (Nat.le_of_ble_eq_true rfl) dL_law_301 ⟨Nat.le_trans (Nat.le_add_right _ _) hf.1, Nat.le_trans (Nat.le_add_right _ _) hf.2⟩ (fun H locs n2 hn2 Lw => ?_)
  have hP2 := PB _ _ _ _ n2 η.2.2 hP1 hn2
  refine lv_icmp_eq (tgt := 922) hx hb dL_law_304 (by decide) (fun q => ?_) (fun q => absurd rfl q)
  exact kk _ _ _ H locs _ _ Lw hP2 (Nat.le_add_right _ _) (Nat.le_add_right _ _)
set_option maxHeartbeats 400000 in
theorem lc_feed (hfl : l.flags = flags0) (PB : ∀ j σ η σm n z, PI j σ η σm → η.2.1 ≤ n → PI j σ (η.1, n, z) σm) (PX : ∀ j σ η σm, PI j σ η σm → XOK (ksOf η) η.1) (PL : PL_feed PI) (C0 : LC dc D p s m args meth c b L xs) (Lw : LW s base adm ad dc D σ η σm H locs) {j : Nat} (hj : j < 64) (hP : PI j σ η σm) (hl : lv_has ls 4 [(0, .ref b), (1, .ref (ad 0)), (2, .ref (adm 0)), (3, .int i)]) (hi : ∀ k : Nat, k < 6 → vp_in (i + Int32.ofNat k) L) (hf : cells + 18000 ≤ room_1.cells ∧ slots + 60000 ≤ room_1.slots)
    (kk : ∀ σ' η' σm' H1 locs1 cells1 slots1, LW s base adm ad dc D σ' η' σm' H1 locs1 → PI (j + 1) σ' η' σm' → cells1 ≤ cells + 18000 → slots1 ≤ slots + 60000 → W p l e room_1 s m args below meth c H1 locs1 cells1 slots1 Q (F0 m 922 ls [])) : W p l e room_1 s m args below meth c H locs cells slots Q (F0 m 309 ls []) := by
  have hx := C0.1
  have hb := C0.2.1
  have hX := PX _ _ _ _ hP
  have hbA : ¬ LA s b := Nat.not_le.mpr C0.2.2.2.2.2.2.2.2.1
  have hXs := C0.2.2.2.2.2.2.2.1
  have hbl := C0.2.2.2.2.2.2.2.2.1
  have hi1 : vp_in (i + 1) L := hi 1 (by decide)
  have hi2 : vp_in (i + 2) L := hi 2 (by decide)
  have hi3 : vp_in (i + 3) L := hi 3 (by decide)
  have hi4 : vp_in (i + 4) L := hi 4 (by decide)
  have hi5 : vp_in (i + 5) L := hi 5 (by decide)
  obtain ⟨r, σ', σm', h1, h2, hP'⟩ := PL j (xs (i + 1).toNatClampNeg) (xs (i + 2).toNatClampNeg) (xs (i + 3).toNatClampNeg) (xs (i + 4).toNatClampNeg) (xs (i + 5).toNatClampNeg) _ _ _ hj hP
  refine lv_aload_n hx hb dL_law_309 rfl (lv_at hl 1 rfl) ?_
  refine lv_aload_n hx hb dL_law_310 rfl (lv_at hl 0 rfl) ?_
  refine lv_iload_n hx hb dL_law_311 rfl (lv_at hl 3 rfl) ?_
  refine lv_iconst (v := 1) hx hb dL_law_312 (by decide +kernel) ?_
  refine lv_iadd hx hb dL_law_313 ?_
  refine va_sld hx hb hXs hbl hbA Lw.vaS hi1 dL_law_314 ?_
  refine lv_aload_n hx hb dL_law_315 rfl (lv_at hl 0 rfl) ?_
  refine lv_iload_n hx hb dL_law_316 rfl (lv_at hl 3 rfl) ?_
  refine lv_iconst (v := 2) hx hb dL_law_317 (by decide +kernel) ?_
  refine lv_iadd hx hb dL_law_318 ?_
  refine va_sld hx hb hXs hbl hbA Lw.vaS hi2 dL_law_319 ?_
  refine lv_aload_n hx hb dL_law_320 rfl (lv_at hl 0 rfl) ?_
  refine lv_iload_n hx hb dL_law_321 rfl (lv_at hl 3 rfl) ?_
  refine lv_iconst (v := 3) hx hb dL_law_322 (by decide +kernel) ?_
  refine lv_iadd hx hb dL_law_323 ?_
  refine va_sld hx hb hXs hbl hbA Lw.vaS hi3 dL_law_324 ?_
  refine lv_aload_n hx hb dL_law_325 rfl (lv_at hl 0 rfl) ?_
  refine lv_iload_n hx hb dL_law_326 rfl (lv_at hl 3 rfl) ?_
  refine lv_iconst (v := 4) hx hb dL_law_327 (by decide +kernel) ?_
  refine lv_iadd hx hb dL_law_328 ?_
  refine va_sld hx hb hXs hbl hbA Lw.vaS hi4 dL_law_329 ?_
  refine lv_aload_n hx hb dL_law_330 rfl (lv_at hl 0 rfl) ?_
  refine lv_iload_n hx hb dL_law_331 rfl (lv_at hl 3 rfl) ?_
  refine lv_iconst (v := 5) hx hb dL_law_332 (by decide +kernel) ?_
  refine lv_iadd hx hb dL_law_333 ?_
  refine va_sld hx hb hXs hbl hbA Lw.vaS hi5 dL_law_334 ?_
  refine l_callG (rest := []) C0 Lw hl (hX.1 0 (by decide)) ((hX.2.1 0 (by decide)).trans rfl) (kX0_feed (l := l) Lw.2.2.1.1 (ks_nd η) Lw.2.2.1.2.2.2 hX h1) (cwV 5 C0.2.2.2.2.1 (lw_V q639 q640 q641 q105 q642) rfl rfl rfl hdX0_feed ⟨Nat.le_of_ble_eq_true rfl, Nat.le_of_ble_eq_true rfl⟩) rfl (Nat.le_of_ble_eq_true rfl) dL_law_335 ⟨Nat.le_trans (Nat.le_add_right _ _) hf.1, Nat.le_trans (Nat.le_add_right _ _) hf.2⟩ (fun H locs nn hnn Lw => ?_)
  have hP1 := PB _ _ _ _ nn η.2.2 hP' hnn
  refine lv_aload_n hx hb dL_law_338 rfl (lv_at hl 2 rfl) ?_
  refine lv_aload_n hx hb dL_law_339 rfl (lv_at hl 0 rfl) ?_
  refine lv_iload_n hx hb dL_law_340 rfl (lv_at hl 3 rfl) ?_
  refine lv_iconst (v := 1) hx hb dL_law_341 (by decide +kernel) ?_
  refine lv_iadd hx hb dL_law_342 ?_
  refine va_sld hx hb hXs hbl hbA Lw.vaS hi1 dL_law_343 ?_
  refine lv_aload_n hx hb dL_law_344 rfl (lv_at hl 0 rfl) ?_
  refine lv_iload_n hx hb dL_law_345 rfl (lv_at hl 3 rfl) ?_
  refine lv_iconst (v := 2) hx hb dL_law_346 (by decide +kernel) ?_
  refine lv_iadd hx hb dL_law_347 ?_
  refine va_sld hx hb hXs hbl hbA Lw.vaS hi2 dL_law_348 ?_
  refine lv_aload_n hx hb dL_law_349 rfl (lv_at hl 0 rfl) ?_
  refine lv_iload_n hx hb dL_law_350 rfl (lv_at hl 3 rfl) ?_
  refine lv_iconst (v := 3) hx hb dL_law_351 (by decide +kernel) ?_
  refine lv_iadd hx hb dL_law_352 ?_
  refine va_sld hx hb hXs hbl hbA Lw.vaS hi3 dL_law_353 ?_
  refine lv_aload_n hx hb dL_law_354 rfl (lv_at hl 0 rfl) ?_
  refine lv_iload_n hx hb dL_law_355 rfl (lv_at hl 3 rfl) ?_
  refine lv_iconst (v := 4) hx hb dL_law_356 (by decide +kernel) ?_
  refine lv_iadd hx hb dL_law_357 ?_
  refine va_sld hx hb hXs hbl hbA Lw.vaS hi4 dL_law_358 ?_
  refine lv_aload_n hx hb dL_law_359 rfl (lv_at hl 0 rfl) ?_
  refine lv_iload_n hx hb dL_law_360 rfl (lv_at hl 3 rfl) ?_
  refine lv_iconst (v := 5) hx hb dL_law_361 (by decide +kernel) ?_
  refine lv_iadd hx hb dL_law_362 ?_
  refine va_sld hx hb hXs hbl hbA Lw.vaS hi5 dL_law_363 ?_
  refine l_callM (rest := [.int r]) C0 Lw hl (kX6_feed (l := l) Lw.2.2.1.2.1 (fun k hk => Am_of hk) h2) (cwV 5 C0.2.2.2.2.1 (lw_V q1777 q1778 q1779 q114 q1780) rfl rfl rfl hdX6_feed ⟨Nat.le_of_ble_eq_true rfl, Nat.le_of_ble_eq_true rfl⟩) rfl (Nat.le_of_ble_eq_true rfl) dL_law_364 ⟨Nat.le_trans (Nat.le_add_right _ _) hf.1, Nat.le_trans (Nat.le_add_right _ _) hf.2⟩ (fun H locs n2 hn2 Lw => ?_)
  have hP2 := PB _ _ _ _ n2 η.2.2 hP1 hn2
  refine lv_icmp_eq (tgt := 922) hx hb dL_law_367 (by decide) (fun q => ?_) (fun q => absurd rfl q)
  exact kk _ _ _ H locs _ _ Lw hP2 (Nat.le_add_right _ _) (Nat.le_add_right _ _)
set_option maxHeartbeats 400000 in
theorem lc_end (hfl : l.flags = flags0) (PB : ∀ j σ η σm n z, PI j σ η σm → η.2.1 ≤ n → PI j σ (η.1, n, z) σm) (PX : ∀ j σ η σm, PI j σ η σm → XOK (ksOf η) η.1) (PL : PL_end PI) (C0 : LC dc D p s m args meth c b L xs) (Lw : LW s base adm ad dc D σ η σm H locs) {j : Nat} (hj : j < 64) (hP : PI j σ η σm) (hl : lv_has ls 4 [(0, .ref b), (1, .ref (ad 0)), (2, .ref (adm 0)), (3, .int i)]) (hi : ∀ k : Nat, k < 6 → vp_in (i + Int32.ofNat k) L) (hf : cells + 18000 ≤ room_1.cells ∧ slots + 60000 ≤ room_1.slots)
    (kk : ∀ σ' η' σm' H1 locs1 cells1 slots1, LW s base adm ad dc D σ' η' σm' H1 locs1 → PI (j + 1) σ' η' σm' → cells1 ≤ cells + 18000 → slots1 ≤ slots + 60000 → W p l e room_1 s m args below meth c H1 locs1 cells1 slots1 Q (F0 m 922 ls [])) : W p l e room_1 s m args below meth c H locs cells slots Q (F0 m 372 ls []) := by
  have hx := C0.1
  have hb := C0.2.1
  have hX := PX _ _ _ _ hP
  have hbA : ¬ LA s b := Nat.not_le.mpr C0.2.2.2.2.2.2.2.2.1
  have hXs := C0.2.2.2.2.2.2.2.1
  have hbl := C0.2.2.2.2.2.2.2.2.1
  have hi1 : vp_in (i + 1) L := hi 1 (by decide)
  obtain ⟨r, σ', σm', h1, h2, hP'⟩ := PL j (xs (i + 1).toNatClampNeg) _ _ _ hj hP
  refine lv_aload_n hx hb dL_law_372 rfl (lv_at hl 1 rfl) ?_
  refine lv_aload_n hx hb dL_law_373 rfl (lv_at hl 0 rfl) ?_
  refine lv_iload_n hx hb dL_law_374 rfl (lv_at hl 3 rfl) ?_
  refine lv_iconst (v := 1) hx hb dL_law_375 (by decide +kernel) ?_
  refine lv_iadd hx hb dL_law_376 ?_
  refine va_sld hx hb hXs hbl hbA Lw.vaS hi1 dL_law_377 ?_
  refine l_callG (rest := []) C0 Lw hl (hX.1 0 (by decide)) ((hX.2.1 0 (by decide)).trans rfl) (kX0_end (l := l) Lw.2.2.1.1 (ks_nd η) Lw.2.2.1.2.2.2 hX h1) (cwV 1 C0.2.2.2.2.1 (lw_V q647 q648 q649 q105 q650) rfl rfl rfl hdX0_end ⟨Nat.le_of_ble_eq_true rfl, Nat.le_of_ble_eq_true rfl⟩) rfl (Nat.le_of_ble_eq_true rfl) dL_law_378 ⟨Nat.le_trans (Nat.le_add_right _ _) hf.1, Nat.le_trans (Nat.le_add_right _ _) hf.2⟩ (fun H locs nn hnn Lw => ?_)
  have hP1 := PB _ _ _ _ nn η.2.2 hP' hnn
  refine lv_aload_n hx hb dL_law_381 rfl (lv_at hl 2 rfl) ?_
  refine lv_aload_n hx hb dL_law_382 rfl (lv_at hl 0 rfl) ?_
  refine lv_iload_n hx hb dL_law_383 rfl (lv_at hl 3 rfl) ?_
  refine lv_iconst (v := 1) hx hb dL_law_384 (by decide +kernel) ?_
  refine lv_iadd hx hb dL_law_385 ?_
  refine va_sld hx hb hXs hbl hbA Lw.vaS hi1 dL_law_386 ?_
  refine l_callM (rest := [.int r]) C0 Lw hl (kX6_end (l := l) Lw.2.2.1.2.1 (fun k hk => Am_of hk) h2) (cwV 1 C0.2.2.2.2.1 (lw_V q1785 q1786 q1787 q114 q1788) rfl rfl rfl hdX6_end ⟨Nat.le_of_ble_eq_true rfl, Nat.le_of_ble_eq_true rfl⟩) rfl (Nat.le_of_ble_eq_true rfl) dL_law_387 ⟨Nat.le_trans (Nat.le_add_right _ _) hf.1, Nat.le_trans (Nat.le_add_right _ _) hf.2⟩ (fun H locs n2 hn2 Lw => ?_)
  have hP2 := PB _ _ _ _ n2 η.2.2 hP1 hn2
  refine lv_icmp_eq (tgt := 922) hx hb dL_law_390 (by decide) (fun q => ?_) (fun q => absurd rfl q)
  exact kk _ _ _ H locs _ _ Lw hP2 (Nat.le_add_right _ _) (Nat.le_add_right _ _)
set_option maxHeartbeats 400000 in
theorem lc_row (hfl : l.flags = flags0) (PB : ∀ j σ η σm n z, PI j σ η σm → η.2.1 ≤ n → PI j σ (η.1, n, z) σm) (PX : ∀ j σ η σm, PI j σ η σm → XOK (ksOf η) η.1) (PL : PL_row PI) (C0 : LC dc D p s m args meth c b L xs) (Lw : LW s base adm ad dc D σ η σm H locs) {j : Nat} (hj : j < 64) (hP : PI j σ η σm) (hl : lv_has ls 4 [(0, .ref b), (1, .ref (ad 0)), (2, .ref (adm 0)), (3, .int i)]) (hi : ∀ k : Nat, k < 6 → vp_in (i + Int32.ofNat k) L) (hf : cells + 18000 ≤ room_1.cells ∧ slots + 60000 ≤ room_1.slots)
    (kk : ∀ σ' η' σm' H1 locs1 cells1 slots1, LW s base adm ad dc D σ' η' σm' H1 locs1 → PI (j + 1) σ' η' σm' → cells1 ≤ cells + 18000 → slots1 ≤ slots + 60000 → W p l e room_1 s m args below meth c H1 locs1 cells1 slots1 Q (F0 m 922 ls [])) : W p l e room_1 s m args below meth c H locs cells slots Q (F0 m 395 ls []) := by
  have hx := C0.1
  have hb := C0.2.1
  have hX := PX _ _ _ _ hP
  have hbA : ¬ LA s b := Nat.not_le.mpr C0.2.2.2.2.2.2.2.2.1
  have hXs := C0.2.2.2.2.2.2.2.1
  have hbl := C0.2.2.2.2.2.2.2.2.1
  obtain ⟨r, σ', η', σm', h1, h2, hEX, hc1, hc2, hP'⟩ := PL j  _ _ _ hj hP
  refine lv_aload_n hx hb dL_law_395 rfl (lv_at hl 1 rfl) ?_
  have hle1 : cells + 4 ≤ room_1.cells := by have := hf.1; omega
  have hle2 : slots + 120 ≤ room_1.slots := by have := hf.2; omega
  refine l_callAW (rest := []) C0 Lw hl hEX (hX.1 0 (by decide)) ((hX.2.1 0 (by decide)).trans rfl) (kX0_row (l := l) hfl Lw.2.2.1.1 Lw.2.2.1.2.2.2 h1 ⟨hc1, hc2⟩) (vx_cwVW 0 C0.2.2.2.2.1 (lw_VW q651 q652 q653 q105 q654) rfl rfl rfl hdX0_row ⟨Nat.le_of_ble_eq_true rfl, Nat.le_of_ble_eq_true rfl⟩) rfl (Nat.le_of_ble_eq_true rfl) dL_law_396 ⟨hle1, hle2⟩ (fun H locs nn hnn Lw => ?_)
  have hP1 := PB _ _ _ _ nn η'.2.2 hP' hnn
  refine lv_aload_n hx hb dL_law_399 rfl (lv_at hl 2 rfl) ?_
  refine l_callM (rest := [.int r]) C0 Lw hl (kX6_row (l := l) Lw.2.2.1.2.1 (fun k hk => Am_of hk) h2) (cwV 0 C0.2.2.2.2.1 (lw_V q1773 q1774 q1775 q114 q1776) rfl rfl rfl hdX6_row ⟨Nat.le_of_ble_eq_true rfl, Nat.le_of_ble_eq_true rfl⟩) rfl (Nat.le_of_ble_eq_true rfl) dL_law_400 ⟨hle1, hle2⟩ (fun H locs n2 hn2 Lw => ?_)
  have hP2 := PB _ _ _ _ n2 η'.2.2 hP1 hn2
  refine lv_icmp_eq (tgt := 922) hx hb dL_law_403 (by decide) (fun q => ?_) (fun q => absurd rfl q)
  exact kk _ _ _ H locs _ _ Lw hP2 (by omega) (by omega)
set_option maxHeartbeats 400000 in
theorem lc_recipe (hfl : l.flags = flags0) (PB : ∀ j σ η σm n z, PI j σ η σm → η.2.1 ≤ n → PI j σ (η.1, n, z) σm) (PX : ∀ j σ η σm, PI j σ η σm → XOK (ksOf η) η.1) (PL : PL_recipe PI) (C0 : LC dc D p s m args meth c b L xs) (Lw : LW s base adm ad dc D σ η σm H locs) {j : Nat} (hj : j < 64) (hP : PI j σ η σm) (hl : lv_has ls 4 [(0, .ref b), (1, .ref (ad 0)), (2, .ref (adm 0)), (3, .int i)]) (hi : ∀ k : Nat, k < 6 → vp_in (i + Int32.ofNat k) L) (hf : cells + 18000 ≤ room_1.cells ∧ slots + 60000 ≤ room_1.slots)
    (kk : ∀ σ' η' σm' H1 locs1 cells1 slots1, LW s base adm ad dc D σ' η' σm' H1 locs1 → PI (j + 1) σ' η' σm' → cells1 ≤ cells + 18000 → slots1 ≤ slots + 60000 → W p l e room_1 s m args below meth c H1 locs1 cells1 slots1 Q (F0 m 922 ls [])) : W p l e room_1 s m args below meth c H locs cells slots Q (F0 m 408 ls []) := by
  have hx := C0.1
  have hb := C0.2.1
  have hX := PX _ _ _ _ hP
  have hbA : ¬ LA s b := Nat.not_le.mpr C0.2.2.2.2.2.2.2.2.1
  have hXs := C0.2.2.2.2.2.2.2.1
  have hbl := C0.2.2.2.2.2.2.2.2.1
  obtain ⟨r, σ', η', σm', h1, h2, hEX, hc1, hc2, hP'⟩ := PL j  _ _ _ hj hP
  refine lv_aload_n hx hb dL_law_408 rfl (lv_at hl 1 rfl) ?_
  have hle1 : cells + (η'.2.1 - η.2.1) ≤ room_1.cells := by have := hf.1; omega
  have hle2 : slots + (η'.2.2 - η.2.2) ≤ room_1.slots := by have := hf.2; omega
  refine l_callAW (rest := []) C0 Lw hl hEX (hX.1 0 (by decide)) ((hX.2.1 0 (by decide)).trans rfl) (kX0_recipe (l := l) Lw.2.2.1.1 Lw.2.2.1.2.2.2 h1) (vx_cwVW 0 C0.2.2.2.2.1 (lw_VW q733 q734 q735 q105 q736) rfl rfl rfl hdX0_recipe ⟨Nat.le_of_ble_eq_true rfl, Nat.le_of_ble_eq_true rfl⟩) rfl (Nat.le_of_ble_eq_true rfl) dL_law_409 ⟨hle1, hle2⟩ (fun H locs nn hnn Lw => ?_)
  have hP1 := PB _ _ _ _ nn η'.2.2 hP' hnn
  refine lv_aload_n hx hb dL_law_412 rfl (lv_at hl 2 rfl) ?_
  refine l_callM (rest := [.int r]) C0 Lw hl (kX6_recipe (l := l) Lw.2.2.1.2.1 (fun k hk => Am_of hk) h2) (cwV 0 C0.2.2.2.2.1 (lw_V q1793 q1794 q1795 q114 q1796) rfl rfl rfl hdX6_recipe ⟨Nat.le_of_ble_eq_true rfl, Nat.le_of_ble_eq_true rfl⟩) rfl (Nat.le_of_ble_eq_true rfl) dL_law_413 ⟨hle1, hle2⟩ (fun H locs n2 hn2 Lw => ?_)
  have hP2 := PB _ _ _ _ n2 η'.2.2 hP1 hn2
  refine lv_icmp_eq (tgt := 922) hx hb dL_law_416 (by decide) (fun q => ?_) (fun q => absurd rfl q)
  exact kk _ _ _ H locs _ _ Lw hP2 (by omega) (by omega)
set_option maxHeartbeats 400000 in
theorem lc_fault (hfl : l.flags = flags0) (PB : ∀ j σ η σm n z, PI j σ η σm → η.2.1 ≤ n → PI j σ (η.1, n, z) σm) (PX : ∀ j σ η σm, PI j σ η σm → XOK (ksOf η) η.1) (PL : PL_fault PI) (C0 : LC dc D p s m args meth c b L xs) (Lw : LW s base adm ad dc D σ η σm H locs) {j : Nat} (hj : j < 64) (hP : PI j σ η σm) (hl : lv_has ls 4 [(0, .ref b), (1, .ref (ad 0)), (2, .ref (adm 0)), (3, .int i)]) (hi : ∀ k : Nat, k < 6 → vp_in (i + Int32.ofNat k) L) (hf : cells + 18000 ≤ room_1.cells ∧ slots + 60000 ≤ room_1.slots)
    (kk : ∀ σ' η' σm' H1 locs1 cells1 slots1, LW s base adm ad dc D σ' η' σm' H1 locs1 → PI (j + 1) σ' η' σm' → cells1 ≤ cells + 18000 → slots1 ≤ slots + 60000 → W p l e room_1 s m args below meth c H1 locs1 cells1 slots1 Q (F0 m 922 ls [])) : W p l e room_1 s m args below meth c H locs cells slots Q (F0 m 421 ls []) := by
  have hx := C0.1
  have hb := C0.2.1
  have hX := PX _ _ _ _ hP
  have hbA : ¬ LA s b := Nat.not_le.mpr C0.2.2.2.2.2.2.2.2.1
  have hXs := C0.2.2.2.2.2.2.2.1
  have hbl := C0.2.2.2.2.2.2.2.2.1
  obtain ⟨r, σm', h1, h2, hP'⟩ := PL j  _ _ _ hj hP
  refine lv_aload_n hx hb dL_law_421 rfl (lv_at hl 1 rfl) ?_
  refine l_callG (rest := []) C0 Lw hl (hX.1 0 (by decide)) ((hX.2.1 0 (by decide)).trans rfl) (kX0_fault (l := l) Lw.2.2.1.1 (ks_nd η) Lw.2.2.1.2.2.2 hX h1) (cwV 0 C0.2.2.2.2.1 (lw_V q1147 q1148 q1149 q105 q1150) rfl rfl rfl hdX0_fault ⟨Nat.le_of_ble_eq_true rfl, Nat.le_of_ble_eq_true rfl⟩) rfl (Nat.le_of_ble_eq_true rfl) dL_law_422 ⟨Nat.le_trans (Nat.le_add_right _ _) hf.1, Nat.le_trans (Nat.le_add_right _ _) hf.2⟩ (fun H locs nn hnn Lw => ?_)
  have hP1 := PB _ _ _ _ nn η.2.2 hP' hnn
  refine lv_aload_n hx hb dL_law_425 rfl (lv_at hl 2 rfl) ?_
  refine l_callM (rest := [.int r]) C0 Lw hl (kX6_fault (l := l) Lw.2.2.1.2.1 (fun k hk => Am_of hk) h2) (cwV 0 C0.2.2.2.2.1 (lw_V q1789 q1790 q1791 q114 q1792) rfl rfl rfl hdX6_fault ⟨Nat.le_of_ble_eq_true rfl, Nat.le_of_ble_eq_true rfl⟩) rfl (Nat.le_of_ble_eq_true rfl) dL_law_426 ⟨Nat.le_trans (Nat.le_add_right _ _) hf.1, Nat.le_trans (Nat.le_add_right _ _) hf.2⟩ (fun H locs n2 hn2 Lw => ?_)
  have hP2 := PB _ _ _ _ n2 η.2.2 hP1 hn2
  refine lv_icmp_eq (tgt := 922) hx hb dL_law_429 (by decide) (fun q => ?_) (fun q => absurd rfl q)
  exact kk _ _ _ H locs _ _ Lw hP2 (Nat.le_add_right _ _) (Nat.le_add_right _ _)
set_option maxHeartbeats 400000 in
theorem lc_steps (hfl : l.flags = flags0) (PB : ∀ j σ η σm n z, PI j σ η σm → η.2.1 ≤ n → PI j σ (η.1, n, z) σm) (PX : ∀ j σ η σm, PI j σ η σm → XOK (ksOf η) η.1) (PL : PL_steps PI) (C0 : LC dc D p s m args meth c b L xs) (Lw : LW s base adm ad dc D σ η σm H locs) {j : Nat} (hj : j < 64) (hP : PI j σ η σm) (hl : lv_has ls 4 [(0, .ref b), (1, .ref (ad 0)), (2, .ref (adm 0)), (3, .int i)]) (hi : ∀ k : Nat, k < 6 → vp_in (i + Int32.ofNat k) L) (hf : cells + 18000 ≤ room_1.cells ∧ slots + 60000 ≤ room_1.slots)
    (kk : ∀ σ' η' σm' H1 locs1 cells1 slots1, LW s base adm ad dc D σ' η' σm' H1 locs1 → PI (j + 1) σ' η' σm' → cells1 ≤ cells + 18000 → slots1 ≤ slots + 60000 → W p l e room_1 s m args below meth c H1 locs1 cells1 slots1 Q (F0 m 922 ls [])) : W p l e room_1 s m args below meth c H locs cells slots Q (F0 m 434 ls []) := by
  have hx := C0.1
  have hb := C0.2.1
  have hX := PX _ _ _ _ hP
  have hbA : ¬ LA s b := Nat.not_le.mpr C0.2.2.2.2.2.2.2.2.1
  have hXs := C0.2.2.2.2.2.2.2.1
  have hbl := C0.2.2.2.2.2.2.2.2.1
  have hi1 : vp_in (i + 1) L := hi 1 (by decide)
  obtain ⟨r, σm', h1, h2, hP'⟩ := PL j (xs (i + 1).toNatClampNeg) _ _ _ hj hP
  refine lv_aload_n hx hb dL_law_434 rfl (lv_at hl 1 rfl) ?_
  refine lv_aload_n hx hb dL_law_435 rfl (lv_at hl 0 rfl) ?_
  refine lv_iload_n hx hb dL_law_436 rfl (lv_at hl 3 rfl) ?_
  refine lv_iconst (v := 1) hx hb dL_law_437 (by decide +kernel) ?_
  refine lv_iadd hx hb dL_law_438 ?_
  refine va_sld hx hb hXs hbl hbA Lw.vaS hi1 dL_law_439 ?_
  refine l_callG (rest := []) C0 Lw hl (hX.1 0 (by decide)) ((hX.2.1 0 (by decide)).trans rfl) (kX0_steps (l := l) Lw.2.2.1.1 (ks_nd η) Lw.2.2.1.2.2.2 hX h1) (cwV 1 C0.2.2.2.2.1 (lw_V q1151 q1152 q1153 q105 q1154) rfl rfl rfl hdX0_steps ⟨Nat.le_of_ble_eq_true rfl, Nat.le_of_ble_eq_true rfl⟩) rfl (Nat.le_of_ble_eq_true rfl) dL_law_440 ⟨Nat.le_trans (Nat.le_add_right _ _) hf.1, Nat.le_trans (Nat.le_add_right _ _) hf.2⟩ (fun H locs nn hnn Lw => ?_)
  have hP1 := PB _ _ _ _ nn η.2.2 hP' hnn
  refine lv_aload_n hx hb dL_law_443 rfl (lv_at hl 2 rfl) ?_
  refine lv_aload_n hx hb dL_law_444 rfl (lv_at hl 0 rfl) ?_
  refine lv_iload_n hx hb dL_law_445 rfl (lv_at hl 3 rfl) ?_
  refine lv_iconst (v := 1) hx hb dL_law_446 (by decide +kernel) ?_
  refine lv_iadd hx hb dL_law_447 ?_
  refine va_sld hx hb hXs hbl hbA Lw.vaS hi1 dL_law_448 ?_
  refine l_callM (rest := [.int r]) C0 Lw hl (kX6_steps (l := l) Lw.2.2.1.2.1 (fun k hk => Am_of hk) h2) (cwV 1 C0.2.2.2.2.1 (lw_V q1919 q1920 q1921 q114 q1922) rfl rfl rfl hdX6_steps ⟨Nat.le_of_ble_eq_true rfl, Nat.le_of_ble_eq_true rfl⟩) rfl (Nat.le_of_ble_eq_true rfl) dL_law_449 ⟨Nat.le_trans (Nat.le_add_right _ _) hf.1, Nat.le_trans (Nat.le_add_right _ _) hf.2⟩ (fun H locs n2 hn2 Lw => ?_)
  have hP2 := PB _ _ _ _ n2 η.2.2 hP1 hn2
  refine lv_icmp_eq (tgt := 922) hx hb dL_law_452 (by decide) (fun q => ?_) (fun q => absurd rfl q)
  exact kk _ _ _ H locs _ _ Lw hP2 (Nat.le_add_right _ _) (Nat.le_add_right _ _)
set_option maxHeartbeats 400000 in
theorem lc_run (hfl : l.flags = flags0) (PB : ∀ j σ η σm n z, PI j σ η σm → η.2.1 ≤ n → PI j σ (η.1, n, z) σm) (PX : ∀ j σ η σm, PI j σ η σm → XOK (ksOf η) η.1) (PL : PL_run PI) (C0 : LC dc D p s m args meth c b L xs) (Lw : LW s base adm ad dc D σ η σm H locs) {j : Nat} (hj : j < 64) (hP : PI j σ η σm) (hl : lv_has ls 4 [(0, .ref b), (1, .ref (ad 0)), (2, .ref (adm 0)), (3, .int i)]) (hi : ∀ k : Nat, k < 6 → vp_in (i + Int32.ofNat k) L) (hf : cells + 18000 ≤ room_1.cells ∧ slots + 60000 ≤ room_1.slots)
    (kk : ∀ σ' η' σm' H1 locs1 cells1 slots1, LW s base adm ad dc D σ' η' σm' H1 locs1 → PI (j + 1) σ' η' σm' → cells1 ≤ cells + 18000 → slots1 ≤ slots + 60000 → W p l e room_1 s m args below meth c H1 locs1 cells1 slots1 Q (F0 m 922 ls [])) : W p l e room_1 s m args below meth c H locs cells slots Q (F0 m 457 ls []) := by
  have hx := C0.1
  have hb := C0.2.1
  have hX := PX _ _ _ _ hP
  have hbA : ¬ LA s b := Nat.not_le.mpr C0.2.2.2.2.2.2.2.2.1
  have hXs := C0.2.2.2.2.2.2.2.1
  have hbl := C0.2.2.2.2.2.2.2.2.1
  have hi1 : vp_in (i + 1) L := hi 1 (by decide)
  obtain ⟨r, σ', σm', h1, h2, hP'⟩ := PL j (xs (i + 1).toNatClampNeg) _ _ _ hj hP
  refine lv_aload_n hx hb dL_law_457 rfl (lv_at hl 1 rfl) ?_
  refine lv_aload_n hx hb dL_law_458 rfl (lv_at hl 0 rfl) ?_
  refine lv_iload_n hx hb dL_law_459 rfl (lv_at hl 3 rfl) ?_
  refine lv_iconst (v := 1) hx hb dL_law_460 (by decide +kernel) ?_
  refine lv_iadd hx hb dL_law_461 ?_
  refine va_sld hx hb hXs hbl hbA Lw.vaS hi1 dL_law_462 ?_
  refine l_callG (rest := []) C0 Lw hl (hX.1 0 (by decide)) ((hX.2.1 0 (by decide)).trans rfl) (kX0_run (l := l) Lw.2.2.1.1 (ks_nd η) Lw.2.2.1.2.2.2 hX h1) (cwV 1 C0.2.2.2.2.1 (lw_V q1172 q1173 q1174 q105 q1175) rfl rfl rfl hdX0_run ⟨Nat.le_of_ble_eq_true rfl, Nat.le_of_ble_eq_true rfl⟩) rfl (Nat.le_of_ble_eq_true rfl) dL_law_463 ⟨Nat.le_trans (Nat.le_add_right _ _) hf.1, Nat.le_trans (Nat.le_add_right _ _) hf.2⟩ (fun H locs nn hnn Lw => ?_)
  have hP1 := PB _ _ _ _ nn η.2.2 hP' hnn
  refine lv_aload_n hx hb dL_law_466 rfl (lv_at hl 2 rfl) ?_
  refine lv_aload_n hx hb dL_law_467 rfl (lv_at hl 0 rfl) ?_
  refine lv_iload_n hx hb dL_law_468 rfl (lv_at hl 3 rfl) ?_
  refine lv_iconst (v := 1) hx hb dL_law_469 (by decide +kernel) ?_
  refine lv_iadd hx hb dL_law_470 ?_
  refine va_sld hx hb hXs hbl hbA Lw.vaS hi1 dL_law_471 ?_
  refine l_callM (rest := [.int r]) C0 Lw hl (kX6_run (l := l) Lw.2.2.1.2.1 (fun k hk => Am_of hk) h2) (cwV 1 C0.2.2.2.2.1 (lw_V q1927 q1928 q1929 q114 q1930) rfl rfl rfl hdX6_run ⟨Nat.le_of_ble_eq_true rfl, Nat.le_of_ble_eq_true rfl⟩) rfl (Nat.le_of_ble_eq_true rfl) dL_law_472 ⟨Nat.le_trans (Nat.le_add_right _ _) hf.1, Nat.le_trans (Nat.le_add_right _ _) hf.2⟩ (fun H locs n2 hn2 Lw => ?_)
  have hP2 := PB _ _ _ _ n2 η.2.2 hP1 hn2
  refine lv_icmp_eq (tgt := 922) hx hb dL_law_475 (by decide) (fun q => ?_) (fun q => absurd rfl q)
  exact kk _ _ _ H locs _ _ Lw hP2 (Nat.le_add_right _ _) (Nat.le_add_right _ _)
set_option maxHeartbeats 400000 in
theorem lc_came (hfl : l.flags = flags0) (PB : ∀ j σ η σm n z, PI j σ η σm → η.2.1 ≤ n → PI j σ (η.1, n, z) σm) (PX : ∀ j σ η σm, PI j σ η σm → XOK (ksOf η) η.1) (PL : PL_came PI) (C0 : LC dc D p s m args meth c b L xs) (Lw : LW s base adm ad dc D σ η σm H locs) {j : Nat} (hj : j < 64) (hP : PI j σ η σm) (hl : lv_has ls 4 [(0, .ref b), (1, .ref (ad 0)), (2, .ref (adm 0)), (3, .int i)]) (hi : ∀ k : Nat, k < 6 → vp_in (i + Int32.ofNat k) L) (hf : cells + 18000 ≤ room_1.cells ∧ slots + 60000 ≤ room_1.slots)
    (kk : ∀ σ' η' σm' H1 locs1 cells1 slots1, LW s base adm ad dc D σ' η' σm' H1 locs1 → PI (j + 1) σ' η' σm' → cells1 ≤ cells + 18000 → slots1 ≤ slots + 60000 → W p l e room_1 s m args below meth c H1 locs1 cells1 slots1 Q (F0 m 922 ls [])) : W p l e room_1 s m args below meth c H locs cells slots Q (F0 m 480 ls []) := by
  have hx := C0.1
  have hb := C0.2.1
  have hX := PX _ _ _ _ hP
  have hbA : ¬ LA s b := Nat.not_le.mpr C0.2.2.2.2.2.2.2.2.1
  have hXs := C0.2.2.2.2.2.2.2.1
  have hbl := C0.2.2.2.2.2.2.2.2.1
  have hi1 : vp_in (i + 1) L := hi 1 (by decide)
  obtain ⟨r, σm', h1, h2, hP'⟩ := PL j (xs (i + 1).toNatClampNeg) _ _ _ hj hP
  refine lv_aload_n hx hb dL_law_480 rfl (lv_at hl 1 rfl) ?_
  refine lv_aload_n hx hb dL_law_481 rfl (lv_at hl 0 rfl) ?_
  refine lv_iload_n hx hb dL_law_482 rfl (lv_at hl 3 rfl) ?_
  refine lv_iconst (v := 1) hx hb dL_law_483 (by decide +kernel) ?_
  refine lv_iadd hx hb dL_law_484 ?_
  refine va_sld hx hb hXs hbl hbA Lw.vaS hi1 dL_law_485 ?_
  refine l_callG (rest := []) C0 Lw hl (hX.1 0 (by decide)) ((hX.2.1 0 (by decide)).trans rfl) (kX0_came (l := l) Lw.2.2.1.1 (ks_nd η) Lw.2.2.1.2.2.2 hX h1) (cwV 1 C0.2.2.2.2.1 (lw_V q1317 q1318 q1319 q105 q1320) rfl rfl rfl hdX0_came ⟨Nat.le_of_ble_eq_true rfl, Nat.le_of_ble_eq_true rfl⟩) rfl (Nat.le_of_ble_eq_true rfl) dL_law_486 ⟨Nat.le_trans (Nat.le_add_right _ _) hf.1, Nat.le_trans (Nat.le_add_right _ _) hf.2⟩ (fun H locs nn hnn Lw => ?_)
  have hP1 := PB _ _ _ _ nn η.2.2 hP' hnn
  refine lv_aload_n hx hb dL_law_489 rfl (lv_at hl 2 rfl) ?_
  refine lv_aload_n hx hb dL_law_490 rfl (lv_at hl 0 rfl) ?_
  refine lv_iload_n hx hb dL_law_491 rfl (lv_at hl 3 rfl) ?_
  refine lv_iconst (v := 1) hx hb dL_law_492 (by decide +kernel) ?_
  refine lv_iadd hx hb dL_law_493 ?_
  refine va_sld hx hb hXs hbl hbA Lw.vaS hi1 dL_law_494 ?_
  refine l_callM (rest := [.int r]) C0 Lw hl (kX6_came (l := l) Lw.2.2.1.2.1 (fun k hk => Am_of hk) h2) (cwV 1 C0.2.2.2.2.1 (lw_V q1988 q1989 q1990 q114 q1991) rfl rfl rfl hdX6_came ⟨Nat.le_of_ble_eq_true rfl, Nat.le_of_ble_eq_true rfl⟩) rfl (Nat.le_of_ble_eq_true rfl) dL_law_495 ⟨Nat.le_trans (Nat.le_add_right _ _) hf.1, Nat.le_trans (Nat.le_add_right _ _) hf.2⟩ (fun H locs n2 hn2 Lw => ?_)
  have hP2 := PB _ _ _ _ n2 η.2.2 hP1 hn2
  refine lv_icmp_eq (tgt := 922) hx hb dL_law_498 (by decide) (fun q => ?_) (fun q => absurd rfl q)
  exact kk _ _ _ H locs _ _ Lw hP2 (Nat.le_add_right _ _) (Nat.le_add_right _ _)
set_option maxHeartbeats 400000 in
theorem lc_iron (hfl : l.flags = flags0) (PB : ∀ j σ η σm n z, PI j σ η σm → η.2.1 ≤ n → PI j σ (η.1, n, z) σm) (PX : ∀ j σ η σm, PI j σ η σm → XOK (ksOf η) η.1) (PL : PL_iron PI) (C0 : LC dc D p s m args meth c b L xs) (Lw : LW s base adm ad dc D σ η σm H locs) {j : Nat} (hj : j < 64) (hP : PI j σ η σm) (hl : lv_has ls 4 [(0, .ref b), (1, .ref (ad 0)), (2, .ref (adm 0)), (3, .int i)]) (hi : ∀ k : Nat, k < 6 → vp_in (i + Int32.ofNat k) L) (hf : cells + 18000 ≤ room_1.cells ∧ slots + 60000 ≤ room_1.slots)
    (kk : ∀ σ' η' σm' H1 locs1 cells1 slots1, LW s base adm ad dc D σ' η' σm' H1 locs1 → PI (j + 1) σ' η' σm' → cells1 ≤ cells + 18000 → slots1 ≤ slots + 60000 → W p l e room_1 s m args below meth c H1 locs1 cells1 slots1 Q (F0 m 922 ls [])) : W p l e room_1 s m args below meth c H locs cells slots Q (F0 m 503 ls []) := by
  have hx := C0.1
  have hb := C0.2.1
  have hX := PX _ _ _ _ hP
  have hbA : ¬ LA s b := Nat.not_le.mpr C0.2.2.2.2.2.2.2.2.1
  have hXs := C0.2.2.2.2.2.2.2.1
  have hbl := C0.2.2.2.2.2.2.2.2.1
  have hi1 : vp_in (i + 1) L := hi 1 (by decide)
  obtain ⟨r, σm', h1, h2, hP'⟩ := PL j (xs (i + 1).toNatClampNeg) _ _ _ hj hP
  refine lv_aload_n hx hb dL_law_503 rfl (lv_at hl 1 rfl) ?_
  refine lv_aload_n hx hb dL_law_504 rfl (lv_at hl 0 rfl) ?_
  refine lv_iload_n hx hb dL_law_505 rfl (lv_at hl 3 rfl) ?_
  refine lv_iconst (v := 1) hx hb dL_law_506 (by decide +kernel) ?_
  refine lv_iadd hx hb dL_law_507 ?_
  refine va_sld hx hb hXs hbl hbA Lw.vaS hi1 dL_law_508 ?_
  refine l_callG (rest := []) C0 Lw hl (hX.1 0 (by decide)) ((hX.2.1 0 (by decide)).trans rfl) (kX0_iron (l := l) Lw.2.2.1.1 (ks_nd η) Lw.2.2.1.2.2.2 hX h1) (cwV 1 C0.2.2.2.2.1 (lw_V q1321 q1322 q1323 q105 q1324) rfl rfl rfl hdX0_iron ⟨Nat.le_of_ble_eq_true rfl, Nat.le_of_ble_eq_true rfl⟩) rfl (Nat.le_of_ble_eq_true rfl) dL_law_509 ⟨Nat.le_trans (Nat.le_add_right _ _) hf.1, Nat.le_trans (Nat.le_add_right _ _) hf.2⟩ (fun H locs nn hnn Lw => ?_)
  have hP1 := PB _ _ _ _ nn η.2.2 hP' hnn
  refine lv_aload_n hx hb dL_law_512 rfl (lv_at hl 2 rfl) ?_
  refine lv_aload_n hx hb dL_law_513 rfl (lv_at hl 0 rfl) ?_
  refine lv_iload_n hx hb dL_law_514 rfl (lv_at hl 3 rfl) ?_
  refine lv_iconst (v := 1) hx hb dL_law_515 (by decide +kernel) ?_
  refine lv_iadd hx hb dL_law_516 ?_
  refine va_sld hx hb hXs hbl hbA Lw.vaS hi1 dL_law_517 ?_
  refine l_callM (rest := [.int r]) C0 Lw hl (kX6_iron (l := l) Lw.2.2.1.2.1 (fun k hk => Am_of hk) h2) (cwV 1 C0.2.2.2.2.1 (lw_V q1993 q1994 q1995 q114 q1996) rfl rfl rfl hdX6_iron ⟨Nat.le_of_ble_eq_true rfl, Nat.le_of_ble_eq_true rfl⟩) rfl (Nat.le_of_ble_eq_true rfl) dL_law_518 ⟨Nat.le_trans (Nat.le_add_right _ _) hf.1, Nat.le_trans (Nat.le_add_right _ _) hf.2⟩ (fun H locs n2 hn2 Lw => ?_)
  have hP2 := PB _ _ _ _ n2 η.2.2 hP1 hn2
  refine lv_icmp_eq (tgt := 922) hx hb dL_law_521 (by decide) (fun q => ?_) (fun q => absurd rfl q)
  exact kk _ _ _ H locs _ _ Lw hP2 (Nat.le_add_right _ _) (Nat.le_add_right _ _)
set_option maxHeartbeats 400000 in
theorem lc_welds (hfl : l.flags = flags0) (PB : ∀ j σ η σm n z, PI j σ η σm → η.2.1 ≤ n → PI j σ (η.1, n, z) σm) (PX : ∀ j σ η σm, PI j σ η σm → XOK (ksOf η) η.1) (PL : PL_welds PI) (C0 : LC dc D p s m args meth c b L xs) (Lw : LW s base adm ad dc D σ η σm H locs) {j : Nat} (hj : j < 64) (hP : PI j σ η σm) (hl : lv_has ls 4 [(0, .ref b), (1, .ref (ad 0)), (2, .ref (adm 0)), (3, .int i)]) (hi : ∀ k : Nat, k < 6 → vp_in (i + Int32.ofNat k) L) (hf : cells + 18000 ≤ room_1.cells ∧ slots + 60000 ≤ room_1.slots)
    (kk : ∀ σ' η' σm' H1 locs1 cells1 slots1, LW s base adm ad dc D σ' η' σm' H1 locs1 → PI (j + 1) σ' η' σm' → cells1 ≤ cells + 18000 → slots1 ≤ slots + 60000 → W p l e room_1 s m args below meth c H1 locs1 cells1 slots1 Q (F0 m 922 ls [])) : W p l e room_1 s m args below meth c H locs cells slots Q (F0 m 526 ls []) := by
  have hx := C0.1
  have hb := C0.2.1
  have hX := PX _ _ _ _ hP
  have hbA : ¬ LA s b := Nat.not_le.mpr C0.2.2.2.2.2.2.2.2.1
  have hXs := C0.2.2.2.2.2.2.2.1
  have hbl := C0.2.2.2.2.2.2.2.2.1
  have hi1 : vp_in (i + 1) L := hi 1 (by decide)
  obtain ⟨r, σm', h1, h2, hP'⟩ := PL j (xs (i + 1).toNatClampNeg) _ _ _ hj hP
  refine lv_aload_n hx hb dL_law_526 rfl (lv_at hl 1 rfl) ?_
  refine lv_aload_n hx hb dL_law_527 rfl (lv_at hl 0 rfl) ?_
  refine lv_iload_n hx hb dL_law_528 rfl (lv_at hl 3 rfl) ?_
  refine lv_iconst (v := 1) hx hb dL_law_529 (by decide +kernel) ?_
  refine lv_iadd hx hb dL_law_530 ?_
  refine va_sld hx hb hXs hbl hbA Lw.vaS hi1 dL_law_531 ?_
  refine l_callGl (rest := []) C0 Lw hl (hX.1 0 (by decide)) ((hX.2.1 0 (by decide)).trans rfl) (kX0_welds (l := l) Lw.2.2.1.1 (ks_nd η) Lw.2.2.1.2.2.2 hX h1) (cwV 1 C0.2.2.2.2.1 (lw_V q1326 q1327 q1328 q105 q1329) rfl rfl rfl hdX0_welds ⟨Nat.le_of_ble_eq_true rfl, Nat.le_of_ble_eq_true rfl⟩) rfl (Nat.le_of_ble_eq_true rfl) dL_law_532 ⟨Nat.le_trans (Nat.le_add_right _ _) hf.1, Nat.le_trans (Nat.le_add_right _ _) hf.2⟩ (fun H locs nn hnn Lw => ?_)
  have hP1 := PB _ _ _ _ nn η.2.2 hP' hnn
  refine lv_aload_n hx hb dL_law_535 rfl (lv_at hl 2 rfl) ?_
  refine lv_aload_n hx hb dL_law_536 rfl (lv_at hl 0 rfl) ?_
  refine lv_iload_n hx hb dL_law_537 rfl (lv_at hl 3 rfl) ?_
  refine lv_iconst (v := 1) hx hb dL_law_538 (by decide +kernel) ?_
  refine lv_iadd hx hb dL_law_539 ?_
  refine va_sld hx hb hXs hbl hbA Lw.vaS hi1 dL_law_540 ?_
  refine l_callMl (rest := [.long r]) C0 Lw hl (kX6_welds (l := l) Lw.2.2.1.2.1 (fun k hk => Am_of hk) h2) (cwV 1 C0.2.2.2.2.1 (lw_V q1997 q1998 q1999 q114 q2000) rfl rfl rfl hdX6_welds ⟨Nat.le_of_ble_eq_true rfl, Nat.le_of_ble_eq_true rfl⟩) rfl (Nat.le_of_ble_eq_true rfl) dL_law_541 ⟨Nat.le_trans (Nat.le_add_right _ _) hf.1, Nat.le_trans (Nat.le_add_right _ _) hf.2⟩ (fun H locs n2 hn2 Lw => ?_)
  have hP2 := PB _ _ _ _ n2 η.2.2 hP1 hn2
  refine W.lcmp hx hb dL_law_544 ?_
  refine lv_if_eq (tgt := 922) hx hb dL_law_545 (by decide) (fun q => ?_) (fun q => absurd ((lg_cmp_eq _ _).mpr rfl) q)
  exact kk _ _ _ H locs _ _ Lw hP2 (Nat.le_add_right _ _) (Nat.le_add_right _ _)
set_option maxHeartbeats 400000 in
theorem lc_heats (hfl : l.flags = flags0) (PB : ∀ j σ η σm n z, PI j σ η σm → η.2.1 ≤ n → PI j σ (η.1, n, z) σm) (PX : ∀ j σ η σm, PI j σ η σm → XOK (ksOf η) η.1) (PL : PL_heats PI) (C0 : LC dc D p s m args meth c b L xs) (Lw : LW s base adm ad dc D σ η σm H locs) {j : Nat} (hj : j < 64) (hP : PI j σ η σm) (hl : lv_has ls 4 [(0, .ref b), (1, .ref (ad 0)), (2, .ref (adm 0)), (3, .int i)]) (hi : ∀ k : Nat, k < 6 → vp_in (i + Int32.ofNat k) L) (hf : cells + 18000 ≤ room_1.cells ∧ slots + 60000 ≤ room_1.slots)
    (kk : ∀ σ' η' σm' H1 locs1 cells1 slots1, LW s base adm ad dc D σ' η' σm' H1 locs1 → PI (j + 1) σ' η' σm' → cells1 ≤ cells + 18000 → slots1 ≤ slots + 60000 → W p l e room_1 s m args below meth c H1 locs1 cells1 slots1 Q (F0 m 922 ls [])) : W p l e room_1 s m args below meth c H locs cells slots Q (F0 m 550 ls []) := by
  have hx := C0.1
  have hb := C0.2.1
  have hX := PX _ _ _ _ hP
  have hbA : ¬ LA s b := Nat.not_le.mpr C0.2.2.2.2.2.2.2.2.1
  have hXs := C0.2.2.2.2.2.2.2.1
  have hbl := C0.2.2.2.2.2.2.2.2.1
  obtain ⟨r, σ', σm', h1, h2, hP'⟩ := PL j  _ _ _ hj hP
  refine lv_aload_n hx hb dL_law_550 rfl (lv_at hl 1 rfl) ?_
  refine l_callG (rest := []) C0 Lw hl (hX.1 0 (by decide)) ((hX.2.1 0 (by decide)).trans rfl) (kX0_heats (l := l) Lw.2.2.1.1 (ks_nd η) Lw.2.2.1.2.2.2 hX h1) (cwV 0 C0.2.2.2.2.1 (lw_V q1335 q1336 q1337 q105 q1338) rfl rfl rfl hdX0_heats ⟨Nat.le_of_ble_eq_true rfl, Nat.le_of_ble_eq_true rfl⟩) rfl (Nat.le_of_ble_eq_true rfl) dL_law_551 ⟨Nat.le_trans (Nat.le_add_right _ _) hf.1, Nat.le_trans (Nat.le_add_right _ _) hf.2⟩ (fun H locs nn hnn Lw => ?_)
  have hP1 := PB _ _ _ _ nn η.2.2 hP' hnn
  refine lv_aload_n hx hb dL_law_554 rfl (lv_at hl 2 rfl) ?_
  refine l_callM (rest := [.int r]) C0 Lw hl (kX6_heats (l := l) Lw.2.2.1.2.1 (fun k hk => Am_of hk) h2) (cwV 0 C0.2.2.2.2.1 (lw_V q2055 q2056 q2057 q114 q2058) rfl rfl rfl hdX6_heats ⟨Nat.le_of_ble_eq_true rfl, Nat.le_of_ble_eq_true rfl⟩) rfl (Nat.le_of_ble_eq_true rfl) dL_law_555 ⟨Nat.le_trans (Nat.le_add_right _ _) hf.1, Nat.le_trans (Nat.le_add_right _ _) hf.2⟩ (fun H locs n2 hn2 Lw => ?_)
  have hP2 := PB _ _ _ _ n2 η.2.2 hP1 hn2
  refine lv_icmp_eq (tgt := 922) hx hb dL_law_558 (by decide) (fun q => ?_) (fun q => absurd rfl q)
  exact kk _ _ _ H locs _ _ Lw hP2 (Nat.le_add_right _ _) (Nat.le_add_right _ _)
set_option maxHeartbeats 400000 in
theorem lc_plan (hfl : l.flags = flags0) (PB : ∀ j σ η σm n z, PI j σ η σm → η.2.1 ≤ n → PI j σ (η.1, n, z) σm) (PX : ∀ j σ η σm, PI j σ η σm → XOK (ksOf η) η.1) (PL : PL_plan PI) (C0 : LC dc D p s m args meth c b L xs) (Lw : LW s base adm ad dc D σ η σm H locs) {j : Nat} (hj : j < 64) (hP : PI j σ η σm) (hl : lv_has ls 4 [(0, .ref b), (1, .ref (ad 0)), (2, .ref (adm 0)), (3, .int i)]) (hi : ∀ k : Nat, k < 6 → vp_in (i + Int32.ofNat k) L) (hf : cells + 18000 ≤ room_1.cells ∧ slots + 60000 ≤ room_1.slots)
    (kk : ∀ σ' η' σm' H1 locs1 cells1 slots1, LW s base adm ad dc D σ' η' σm' H1 locs1 → PI (j + 1) σ' η' σm' → cells1 ≤ cells + 18000 → slots1 ≤ slots + 60000 → W p l e room_1 s m args below meth c H1 locs1 cells1 slots1 Q (F0 m 922 ls [])) : W p l e room_1 s m args below meth c H locs cells slots Q (F0 m 563 ls []) := by
  have hx := C0.1
  have hb := C0.2.1
  have hX := PX _ _ _ _ hP
  have hbA : ¬ LA s b := Nat.not_le.mpr C0.2.2.2.2.2.2.2.2.1
  have hXs := C0.2.2.2.2.2.2.2.1
  have hbl := C0.2.2.2.2.2.2.2.2.1
  have hi1 : vp_in (i + 1) L := hi 1 (by decide)
  have hi2 : vp_in (i + 2) L := hi 2 (by decide)
  obtain ⟨r, σ', σm', h1, h2, hP'⟩ := PL j (xs (i + 1).toNatClampNeg) (xs (i + 2).toNatClampNeg) _ _ _ hj hP
  refine lv_aload_n hx hb dL_law_563 rfl (lv_at hl 1 rfl) ?_
  refine lv_aload_n hx hb dL_law_564 rfl (lv_at hl 0 rfl) ?_
  refine lv_iload_n hx hb dL_law_565 rfl (lv_at hl 3 rfl) ?_
  refine lv_iconst (v := 1) hx hb dL_law_566 (by decide +kernel) ?_
  refine lv_iadd hx hb dL_law_567 ?_
  refine va_sld hx hb hXs hbl hbA Lw.vaS hi1 dL_law_568 ?_
  refine lv_aload_n hx hb dL_law_569 rfl (lv_at hl 0 rfl) ?_
  refine lv_iload_n hx hb dL_law_570 rfl (lv_at hl 3 rfl) ?_
  refine lv_iconst (v := 2) hx hb dL_law_571 (by decide +kernel) ?_
  refine lv_iadd hx hb dL_law_572 ?_
  refine va_sld hx hb hXs hbl hbA Lw.vaS hi2 dL_law_573 ?_
  refine l_callG (rest := []) C0 Lw hl (hX.1 0 (by decide)) ((hX.2.1 0 (by decide)).trans rfl) (kX0_plan (l := l) Lw.2.2.1.1 (ks_nd η) Lw.2.2.1.2.2.2 hX h1) (cwV 2 C0.2.2.2.2.1 (lw_V q1412 q1413 q1414 q105 q1415) rfl rfl rfl hdX0_plan ⟨Nat.le_of_ble_eq_true rfl, Nat.le_of_ble_eq_true rfl⟩) rfl (Nat.le_of_ble_eq_true rfl) dL_law_574 ⟨Nat.le_trans (Nat.le_add_right _ _) hf.1, Nat.le_trans (Nat.le_add_right _ _) hf.2⟩ (fun H locs nn hnn Lw => ?_)
  have hP1 := PB _ _ _ _ nn η.2.2 hP' hnn
  refine lv_aload_n hx hb dL_law_577 rfl (lv_at hl 2 rfl) ?_
  refine lv_aload_n hx hb dL_law_578 rfl (lv_at hl 0 rfl) ?_
  refine lv_iload_n hx hb dL_law_579 rfl (lv_at hl 3 rfl) ?_
  refine lv_iconst (v := 1) hx hb dL_law_580 (by decide +kernel) ?_
  refine lv_iadd hx hb dL_law_581 ?_
  refine va_sld hx hb hXs hbl hbA Lw.vaS hi1 dL_law_582 ?_
  refine lv_aload_n hx hb dL_law_583 rfl (lv_at hl 0 rfl) ?_
  refine lv_iload_n hx hb dL_law_584 rfl (lv_at hl 3 rfl) ?_
  refine lv_iconst (v := 2) hx hb dL_law_585 (by decide +kernel) ?_
  refine lv_iadd hx hb dL_law_586 ?_
  refine va_sld hx hb hXs hbl hbA Lw.vaS hi2 dL_law_587 ?_
  refine l_callM (rest := [.int r]) C0 Lw hl (kX6_plan (l := l) Lw.2.2.1.2.1 (fun k hk => Am_of hk) h2) (cwV 2 C0.2.2.2.2.1 (lw_V q2075 q2076 q2077 q114 q2078) rfl rfl rfl hdX6_plan ⟨Nat.le_of_ble_eq_true rfl, Nat.le_of_ble_eq_true rfl⟩) rfl (Nat.le_of_ble_eq_true rfl) dL_law_588 ⟨Nat.le_trans (Nat.le_add_right _ _) hf.1, Nat.le_trans (Nat.le_add_right _ _) hf.2⟩ (fun H locs n2 hn2 Lw => ?_)
  have hP2 := PB _ _ _ _ n2 η.2.2 hP1 hn2
  refine lv_icmp_eq (tgt := 922) hx hb dL_law_591 (by decide) (fun q => ?_) (fun q => absurd rfl q)
  exact kk _ _ _ H locs _ _ Lw hP2 (Nat.le_add_right _ _) (Nat.le_add_right _ _)
set_option maxHeartbeats 400000 in
theorem lc_reached (hfl : l.flags = flags0) (PB : ∀ j σ η σm n z, PI j σ η σm → η.2.1 ≤ n → PI j σ (η.1, n, z) σm) (PX : ∀ j σ η σm, PI j σ η σm → XOK (ksOf η) η.1) (PL : PL_reached PI) (C0 : LC dc D p s m args meth c b L xs) (Lw : LW s base adm ad dc D σ η σm H locs) {j : Nat} (hj : j < 64) (hP : PI j σ η σm) (hl : lv_has ls 4 [(0, .ref b), (1, .ref (ad 0)), (2, .ref (adm 0)), (3, .int i)]) (hi : ∀ k : Nat, k < 6 → vp_in (i + Int32.ofNat k) L) (hf : cells + 18000 ≤ room_1.cells ∧ slots + 60000 ≤ room_1.slots)
    (kk : ∀ σ' η' σm' H1 locs1 cells1 slots1, LW s base adm ad dc D σ' η' σm' H1 locs1 → PI (j + 1) σ' η' σm' → cells1 ≤ cells + 18000 → slots1 ≤ slots + 60000 → W p l e room_1 s m args below meth c H1 locs1 cells1 slots1 Q (F0 m 922 ls [])) : W p l e room_1 s m args below meth c H locs cells slots Q (F0 m 596 ls []) := by
  have hx := C0.1
  have hb := C0.2.1
  have hX := PX _ _ _ _ hP
  have hbA : ¬ LA s b := Nat.not_le.mpr C0.2.2.2.2.2.2.2.2.1
  have hXs := C0.2.2.2.2.2.2.2.1
  have hbl := C0.2.2.2.2.2.2.2.2.1
  have hi1 : vp_in (i + 1) L := hi 1 (by decide)
  obtain ⟨r, σ', σm', h1, h2, hP'⟩ := PL j (xs (i + 1).toNatClampNeg) _ _ _ hj hP
  refine lv_aload_n hx hb dL_law_596 rfl (lv_at hl 1 rfl) ?_
  refine lv_aload_n hx hb dL_law_597 rfl (lv_at hl 0 rfl) ?_
  refine lv_iload_n hx hb dL_law_598 rfl (lv_at hl 3 rfl) ?_
  refine lv_iconst (v := 1) hx hb dL_law_599 (by decide +kernel) ?_
  refine lv_iadd hx hb dL_law_600 ?_
  refine va_sld hx hb hXs hbl hbA Lw.vaS hi1 dL_law_601 ?_
  refine l_callG (rest := []) C0 Lw hl (hX.1 0 (by decide)) ((hX.2.1 0 (by decide)).trans rfl) (kX0_reached (l := l) Lw.2.2.1.1 (ks_nd η) Lw.2.2.1.2.2.2 hX h1) (cwV 1 C0.2.2.2.2.1 (lw_V q1417 q1418 q1419 q105 q1420) rfl rfl rfl hdX0_reached ⟨Nat.le_of_ble_eq_true rfl, Nat.le_of_ble_eq_true rfl⟩) rfl (Nat.le_of_ble_eq_true rfl) dL_law_602 ⟨Nat.le_trans (Nat.le_add_right _ _) hf.1, Nat.le_trans (Nat.le_add_right _ _) hf.2⟩ (fun H locs nn hnn Lw => ?_)
  have hP1 := PB _ _ _ _ nn η.2.2 hP' hnn
  refine lv_aload_n hx hb dL_law_605 rfl (lv_at hl 2 rfl) ?_
  refine lv_aload_n hx hb dL_law_606 rfl (lv_at hl 0 rfl) ?_
  refine lv_iload_n hx hb dL_law_607 rfl (lv_at hl 3 rfl) ?_
  refine lv_iconst (v := 1) hx hb dL_law_608 (by decide +kernel) ?_
  refine lv_iadd hx hb dL_law_609 ?_
  refine va_sld hx hb hXs hbl hbA Lw.vaS hi1 dL_law_610 ?_
  refine l_callM (rest := [.int r]) C0 Lw hl (kX6_reached (l := l) Lw.2.2.1.2.1 (fun k hk => Am_of hk) h2) (cwV 1 C0.2.2.2.2.1 (lw_V q2022 q2023 q2024 q114 q2025) rfl rfl rfl hdX6_reached ⟨Nat.le_of_ble_eq_true rfl, Nat.le_of_ble_eq_true rfl⟩) rfl (Nat.le_of_ble_eq_true rfl) dL_law_611 ⟨Nat.le_trans (Nat.le_add_right _ _) hf.1, Nat.le_trans (Nat.le_add_right _ _) hf.2⟩ (fun H locs n2 hn2 Lw => ?_)
  have hP2 := PB _ _ _ _ n2 η.2.2 hP1 hn2
  refine lv_icmp_eq (tgt := 922) hx hb dL_law_614 (by decide) (fun q => ?_) (fun q => absurd rfl q)
  exact kk _ _ _ H locs _ _ Lw hP2 (Nat.le_add_right _ _) (Nat.le_add_right _ _)
set_option maxHeartbeats 400000 in
theorem lc_even (hfl : l.flags = flags0) (PB : ∀ j σ η σm n z, PI j σ η σm → η.2.1 ≤ n → PI j σ (η.1, n, z) σm) (PX : ∀ j σ η σm, PI j σ η σm → XOK (ksOf η) η.1) (PL : PL_even PI) (C0 : LC dc D p s m args meth c b L xs) (Lw : LW s base adm ad dc D σ η σm H locs) {j : Nat} (hj : j < 64) (hP : PI j σ η σm) (hl : lv_has ls 4 [(0, .ref b), (1, .ref (ad 0)), (2, .ref (adm 0)), (3, .int i)]) (hi : ∀ k : Nat, k < 6 → vp_in (i + Int32.ofNat k) L) (hf : cells + 18000 ≤ room_1.cells ∧ slots + 60000 ≤ room_1.slots)
    (kk : ∀ σ' η' σm' H1 locs1 cells1 slots1, LW s base adm ad dc D σ' η' σm' H1 locs1 → PI (j + 1) σ' η' σm' → cells1 ≤ cells + 18000 → slots1 ≤ slots + 60000 → W p l e room_1 s m args below meth c H1 locs1 cells1 slots1 Q (F0 m 922 ls [])) : W p l e room_1 s m args below meth c H locs cells slots Q (F0 m 619 ls []) := by
  have hx := C0.1
  have hb := C0.2.1
  have hX := PX _ _ _ _ hP
  have hbA : ¬ LA s b := Nat.not_le.mpr C0.2.2.2.2.2.2.2.2.1
  have hXs := C0.2.2.2.2.2.2.2.1
  have hbl := C0.2.2.2.2.2.2.2.2.1
  obtain ⟨r, σ', σm', h1, h2, hP'⟩ := PL j  _ _ _ hj hP
  refine lv_aload_n hx hb dL_law_619 rfl (lv_at hl 1 rfl) ?_
  refine l_callG (rest := []) C0 Lw hl (hX.1 0 (by decide)) ((hX.2.1 0 (by decide)).trans rfl) (kX0_even (l := l) Lw.2.2.1.1 (ks_nd η) Lw.2.2.1.2.2.2 hX h1) (cwV 0 C0.2.2.2.2.1 (lw_V q1424 q1425 q1426 q105 q1427) rfl rfl rfl hdX0_even ⟨Nat.le_of_ble_eq_true rfl, Nat.le_of_ble_eq_true rfl⟩) rfl (Nat.le_of_ble_eq_true rfl) dL_law_620 ⟨Nat.le_trans (Nat.le_add_right _ _) hf.1, Nat.le_trans (Nat.le_add_right _ _) hf.2⟩ (fun H locs nn hnn Lw => ?_)
  have hP1 := PB _ _ _ _ nn η.2.2 hP' hnn
  refine lv_aload_n hx hb dL_law_623 rfl (lv_at hl 2 rfl) ?_
  refine l_callM (rest := [.int r]) C0 Lw hl (kX6_even (l := l) Lw.2.2.1.2.1 (fun k hk => Am_of hk) h2) (cwV 0 C0.2.2.2.2.1 (lw_V q2079 q2080 q2081 q114 q2082) rfl rfl rfl hdX6_even ⟨Nat.le_of_ble_eq_true rfl, Nat.le_of_ble_eq_true rfl⟩) rfl (Nat.le_of_ble_eq_true rfl) dL_law_624 ⟨Nat.le_trans (Nat.le_add_right _ _) hf.1, Nat.le_trans (Nat.le_add_right _ _) hf.2⟩ (fun H locs n2 hn2 Lw => ?_)
  have hP2 := PB _ _ _ _ n2 η.2.2 hP1 hn2
  refine lv_icmp_eq (tgt := 922) hx hb dL_law_627 (by decide) (fun q => ?_) (fun q => absurd rfl q)
  exact kk _ _ _ H locs _ _ Lw hP2 (Nat.le_add_right _ _) (Nat.le_add_right _ _)
set_option maxHeartbeats 400000 in
theorem lc_change (hfl : l.flags = flags0) (PB : ∀ j σ η σm n z, PI j σ η σm → η.2.1 ≤ n → PI j σ (η.1, n, z) σm) (PX : ∀ j σ η σm, PI j σ η σm → XOK (ksOf η) η.1) (PL : PL_change PI) (C0 : LC dc D p s m args meth c b L xs) (Lw : LW s base adm ad dc D σ η σm H locs) {j : Nat} (hj : j < 64) (hP : PI j σ η σm) (hl : lv_has ls 4 [(0, .ref b), (1, .ref (ad 0)), (2, .ref (adm 0)), (3, .int i)]) (hi : ∀ k : Nat, k < 6 → vp_in (i + Int32.ofNat k) L) (hf : cells + 18000 ≤ room_1.cells ∧ slots + 60000 ≤ room_1.slots)
    (kk : ∀ σ' η' σm' H1 locs1 cells1 slots1, LW s base adm ad dc D σ' η' σm' H1 locs1 → PI (j + 1) σ' η' σm' → cells1 ≤ cells + 18000 → slots1 ≤ slots + 60000 → W p l e room_1 s m args below meth c H1 locs1 cells1 slots1 Q (F0 m 922 ls [])) : W p l e room_1 s m args below meth c H locs cells slots Q (F0 m 632 ls []) := by
  have hx := C0.1
  have hb := C0.2.1
  have hX := PX _ _ _ _ hP
  have hbA : ¬ LA s b := Nat.not_le.mpr C0.2.2.2.2.2.2.2.2.1
  have hXs := C0.2.2.2.2.2.2.2.1
  have hbl := C0.2.2.2.2.2.2.2.2.1
  have hi1 : vp_in (i + 1) L := hi 1 (by decide)
  have hi2 : vp_in (i + 2) L := hi 2 (by decide)
  obtain ⟨r, σ', σm', h1, h2, hP'⟩ := PL j (xs (i + 1).toNatClampNeg) (xs (i + 2).toNatClampNeg) _ _ _ hj hP
  refine lv_aload_n hx hb dL_law_632 rfl (lv_at hl 1 rfl) ?_
  refine lv_aload_n hx hb dL_law_633 rfl (lv_at hl 0 rfl) ?_
  refine lv_iload_n hx hb dL_law_634 rfl (lv_at hl 3 rfl) ?_
  refine lv_iconst (v := 1) hx hb dL_law_635 (by decide +kernel) ?_
  refine lv_iadd hx hb dL_law_636 ?_
  refine va_sld hx hb hXs hbl hbA Lw.vaS hi1 dL_law_637 ?_
  refine lv_aload_n hx hb dL_law_638 rfl (lv_at hl 0 rfl) ?_
  refine lv_iload_n hx hb dL_law_639 rfl (lv_at hl 3 rfl) ?_
  refine lv_iconst (v := 2) hx hb dL_law_640 (by decide +kernel) ?_
  refine lv_iadd hx hb dL_law_641 ?_
  refine va_sld hx hb hXs hbl hbA Lw.vaS hi2 dL_law_642 ?_
  refine l_callG (rest := []) C0 Lw hl (hX.1 0 (by decide)) ((hX.2.1 0 (by decide)).trans rfl) (kX0_change (l := l) Lw.2.2.1.1 (ks_nd η) Lw.2.2.1.2.2.2 hX h1) (cwV 2 C0.2.2.2.2.1 (lw_V q1433 q1434 q1435 q105 q1436) rfl rfl rfl hdX0_change ⟨Nat.le_of_ble_eq_true rfl, Nat.le_of_ble_eq_true rfl⟩) rfl (Nat.le_of_ble_eq_true rfl) dL_law_643 ⟨Nat.le_trans (Nat.le_add_right _ _) hf.1, Nat.le_trans (Nat.le_add_right _ _) hf.2⟩ (fun H locs nn hnn Lw => ?_)
  have hP1 := PB _ _ _ _ nn η.2.2 hP' hnn
  refine lv_aload_n hx hb dL_law_646 rfl (lv_at hl 2 rfl) ?_
  refine lv_aload_n hx hb dL_law_647 rfl (lv_at hl 0 rfl) ?_
  refine lv_iload_n hx hb dL_law_648 rfl (lv_at hl 3 rfl) ?_
  refine lv_iconst (v := 1) hx hb dL_law_649 (by decide +kernel) ?_
  refine lv_iadd hx hb dL_law_650 ?_
  refine va_sld hx hb hXs hbl hbA Lw.vaS hi1 dL_law_651 ?_
  refine lv_aload_n hx hb dL_law_652 rfl (lv_at hl 0 rfl) ?_
  refine lv_iload_n hx hb dL_law_653 rfl (lv_at hl 3 rfl) ?_
  refine lv_iconst (v := 2) hx hb dL_law_654 (by decide +kernel) ?_
  refine lv_iadd hx hb dL_law_655 ?_
  refine va_sld hx hb hXs hbl hbA Lw.vaS hi2 dL_law_656 ?_
  refine l_callM (rest := [.int r]) C0 Lw hl (kX6_change (l := l) Lw.2.2.1.2.1 (fun k hk => Am_of hk) h2) (cwV 2 C0.2.2.2.2.1 (lw_V q2001 q2002 q2003 q114 q2004) rfl rfl rfl hdX6_change ⟨Nat.le_of_ble_eq_true rfl, Nat.le_of_ble_eq_true rfl⟩) rfl (Nat.le_of_ble_eq_true rfl) dL_law_657 ⟨Nat.le_trans (Nat.le_add_right _ _) hf.1, Nat.le_trans (Nat.le_add_right _ _) hf.2⟩ (fun H locs n2 hn2 Lw => ?_)
  have hP2 := PB _ _ _ _ n2 η.2.2 hP1 hn2
  refine lv_icmp_eq (tgt := 922) hx hb dL_law_660 (by decide) (fun q => ?_) (fun q => absurd rfl q)
  exact kk _ _ _ H locs _ _ Lw hP2 (Nat.le_add_right _ _) (Nat.le_add_right _ _)
set_option maxHeartbeats 400000 in
theorem lc_made (hfl : l.flags = flags0) (PB : ∀ j σ η σm n z, PI j σ η σm → η.2.1 ≤ n → PI j σ (η.1, n, z) σm) (PX : ∀ j σ η σm, PI j σ η σm → XOK (ksOf η) η.1) (PL : PL_made PI) (C0 : LC dc D p s m args meth c b L xs) (Lw : LW s base adm ad dc D σ η σm H locs) {j : Nat} (hj : j < 64) (hP : PI j σ η σm) (hl : lv_has ls 4 [(0, .ref b), (1, .ref (ad 0)), (2, .ref (adm 0)), (3, .int i)]) (hi : ∀ k : Nat, k < 6 → vp_in (i + Int32.ofNat k) L) (hf : cells + 18000 ≤ room_1.cells ∧ slots + 60000 ≤ room_1.slots)
    (kk : ∀ σ' η' σm' H1 locs1 cells1 slots1, LW s base adm ad dc D σ' η' σm' H1 locs1 → PI (j + 1) σ' η' σm' → cells1 ≤ cells + 18000 → slots1 ≤ slots + 60000 → W p l e room_1 s m args below meth c H1 locs1 cells1 slots1 Q (F0 m 922 ls [])) : W p l e room_1 s m args below meth c H locs cells slots Q (F0 m 665 ls []) := by
  have hx := C0.1
  have hb := C0.2.1
  have hX := PX _ _ _ _ hP
  have hbA : ¬ LA s b := Nat.not_le.mpr C0.2.2.2.2.2.2.2.2.1
  have hXs := C0.2.2.2.2.2.2.2.1
  have hbl := C0.2.2.2.2.2.2.2.2.1
  have hi1 : vp_in (i + 1) L := hi 1 (by decide)
  have hi2 : vp_in (i + 2) L := hi 2 (by decide)
  have hi3 : vp_in (i + 3) L := hi 3 (by decide)
  obtain ⟨r, σ', σm', h1, h2, hP'⟩ := PL j (xs (i + 1).toNatClampNeg) (xs (i + 2).toNatClampNeg) (xs (i + 3).toNatClampNeg) _ _ _ hj hP
  refine lv_aload_n hx hb dL_law_665 rfl (lv_at hl 1 rfl) ?_
  refine lv_aload_n hx hb dL_law_666 rfl (lv_at hl 0 rfl) ?_
  refine lv_iload_n hx hb dL_law_667 rfl (lv_at hl 3 rfl) ?_
  refine lv_iconst (v := 1) hx hb dL_law_668 (by decide +kernel) ?_
  refine lv_iadd hx hb dL_law_669 ?_
  refine va_sld hx hb hXs hbl hbA Lw.vaS hi1 dL_law_670 ?_
  refine lv_aload_n hx hb dL_law_671 rfl (lv_at hl 0 rfl) ?_
  refine lv_iload_n hx hb dL_law_672 rfl (lv_at hl 3 rfl) ?_
  refine lv_iconst (v := 2) hx hb dL_law_673 (by decide +kernel) ?_
  refine lv_iadd hx hb dL_law_674 ?_
  refine va_sld hx hb hXs hbl hbA Lw.vaS hi2 dL_law_675 ?_
  refine lv_aload_n hx hb dL_law_676 rfl (lv_at hl 0 rfl) ?_
  refine lv_iload_n hx hb dL_law_677 rfl (lv_at hl 3 rfl) ?_
  refine lv_iconst (v := 3) hx hb dL_law_678 (by decide +kernel) ?_
  refine lv_iadd hx hb dL_law_679 ?_
  refine va_sld hx hb hXs hbl hbA Lw.vaS hi3 dL_law_680 ?_
  refine l_callG (rest := []) C0 Lw hl (hX.1 0 (by decide)) ((hX.2.1 0 (by decide)).trans rfl) (kX0_made (l := l) Lw.2.2.1.1 (ks_nd η) Lw.2.2.1.2.2.2 hX h1) (cwV 3 C0.2.2.2.2.1 (lw_V q1446 q1447 q1448 q105 q1449) rfl rfl rfl hdX0_made ⟨Nat.le_of_ble_eq_true rfl, Nat.le_of_ble_eq_true rfl⟩) rfl (Nat.le_of_ble_eq_true rfl) dL_law_681 ⟨Nat.le_trans (Nat.le_add_right _ _) hf.1, Nat.le_trans (Nat.le_add_right _ _) hf.2⟩ (fun H locs nn hnn Lw => ?_)
  have hP1 := PB _ _ _ _ nn η.2.2 hP' hnn
  refine lv_aload_n hx hb dL_law_684 rfl (lv_at hl 2 rfl) ?_
  refine lv_aload_n hx hb dL_law_685 rfl (lv_at hl 0 rfl) ?_
  refine lv_iload_n hx hb dL_law_686 rfl (lv_at hl 3 rfl) ?_
  refine lv_iconst (v := 1) hx hb dL_law_687 (by decide +kernel) ?_
  refine lv_iadd hx hb dL_law_688 ?_
  refine va_sld hx hb hXs hbl hbA Lw.vaS hi1 dL_law_689 ?_
  refine lv_aload_n hx hb dL_law_690 rfl (lv_at hl 0 rfl) ?_
  refine lv_iload_n hx hb dL_law_691 rfl (lv_at hl 3 rfl) ?_
  refine lv_iconst (v := 2) hx hb dL_law_692 (by decide +kernel) ?_
  refine lv_iadd hx hb dL_law_693 ?_
  refine va_sld hx hb hXs hbl hbA Lw.vaS hi2 dL_law_694 ?_
  refine lv_aload_n hx hb dL_law_695 rfl (lv_at hl 0 rfl) ?_
  refine lv_iload_n hx hb dL_law_696 rfl (lv_at hl 3 rfl) ?_
  refine lv_iconst (v := 3) hx hb dL_law_697 (by decide +kernel) ?_
  refine lv_iadd hx hb dL_law_698 ?_
  refine va_sld hx hb hXs hbl hbA Lw.vaS hi3 dL_law_699 ?_
  refine l_callM (rest := [.int r]) C0 Lw hl (kX6_made (l := l) Lw.2.2.1.2.1 (fun k hk => Am_of hk) h2) (cwV 3 C0.2.2.2.2.1 (lw_V q2013 q2014 q2015 q114 q2016) rfl rfl rfl hdX6_made ⟨Nat.le_of_ble_eq_true rfl, Nat.le_of_ble_eq_true rfl⟩) rfl (Nat.le_of_ble_eq_true rfl) dL_law_700 ⟨Nat.le_trans (Nat.le_add_right _ _) hf.1, Nat.le_trans (Nat.le_add_right _ _) hf.2⟩ (fun H locs n2 hn2 Lw => ?_)
  have hP2 := PB _ _ _ _ n2 η.2.2 hP1 hn2
  refine lv_icmp_eq (tgt := 922) hx hb dL_law_703 (by decide) (fun q => ?_) (fun q => absurd rfl q)
  exact kk _ _ _ H locs _ _ Lw hP2 (Nat.le_add_right _ _) (Nat.le_add_right _ _)
set_option maxHeartbeats 400000 in
theorem lc_twelve (hfl : l.flags = flags0) (PB : ∀ j σ η σm n z, PI j σ η σm → η.2.1 ≤ n → PI j σ (η.1, n, z) σm) (PX : ∀ j σ η σm, PI j σ η σm → XOK (ksOf η) η.1) (PL : PL_twelve PI) (C0 : LC dc D p s m args meth c b L xs) (Lw : LW s base adm ad dc D σ η σm H locs) {j : Nat} (hj : j < 64) (hP : PI j σ η σm) (hl : lv_has ls 4 [(0, .ref b), (1, .ref (ad 0)), (2, .ref (adm 0)), (3, .int i)]) (hi : ∀ k : Nat, k < 6 → vp_in (i + Int32.ofNat k) L) (hf : cells + 18000 ≤ room_1.cells ∧ slots + 60000 ≤ room_1.slots)
    (kk : ∀ σ' η' σm' H1 locs1 cells1 slots1, LW s base adm ad dc D σ' η' σm' H1 locs1 → PI (j + 1) σ' η' σm' → cells1 ≤ cells + 18000 → slots1 ≤ slots + 60000 → W p l e room_1 s m args below meth c H1 locs1 cells1 slots1 Q (F0 m 922 ls [])) : W p l e room_1 s m args below meth c H locs cells slots Q (F0 m 708 ls []) := by
  have hx := C0.1
  have hb := C0.2.1
  have hX := PX _ _ _ _ hP
  have hbA : ¬ LA s b := Nat.not_le.mpr C0.2.2.2.2.2.2.2.2.1
  have hXs := C0.2.2.2.2.2.2.2.1
  have hbl := C0.2.2.2.2.2.2.2.2.1
  have hi1 : vp_in (i + 1) L := hi 1 (by decide)
  have hi2 : vp_in (i + 2) L := hi 2 (by decide)
  have hi3 : vp_in (i + 3) L := hi 3 (by decide)
  have hi4 : vp_in (i + 4) L := hi 4 (by decide)
  obtain ⟨r, σ', σm', h1, h2, hP'⟩ := PL j (xs (i + 1).toNatClampNeg) (xs (i + 2).toNatClampNeg) (xs (i + 3).toNatClampNeg) (xs (i + 4).toNatClampNeg) _ _ _ hj hP
  refine lv_aload_n hx hb dL_law_708 rfl (lv_at hl 1 rfl) ?_
  refine lv_aload_n hx hb dL_law_709 rfl (lv_at hl 0 rfl) ?_
  refine lv_iload_n hx hb dL_law_710 rfl (lv_at hl 3 rfl) ?_
  refine lv_iconst (v := 1) hx hb dL_law_711 (by decide +kernel) ?_
  refine lv_iadd hx hb dL_law_712 ?_
  refine va_sld hx hb hXs hbl hbA Lw.vaS hi1 dL_law_713 ?_
  refine lv_aload_n hx hb dL_law_714 rfl (lv_at hl 0 rfl) ?_
  refine lv_iload_n hx hb dL_law_715 rfl (lv_at hl 3 rfl) ?_
  refine lv_iconst (v := 2) hx hb dL_law_716 (by decide +kernel) ?_
  refine lv_iadd hx hb dL_law_717 ?_
  refine va_sld hx hb hXs hbl hbA Lw.vaS hi2 dL_law_718 ?_
  refine lv_aload_n hx hb dL_law_719 rfl (lv_at hl 0 rfl) ?_
  refine lv_iload_n hx hb dL_law_720 rfl (lv_at hl 3 rfl) ?_
  refine lv_iconst (v := 3) hx hb dL_law_721 (by decide +kernel) ?_
  refine lv_iadd hx hb dL_law_722 ?_
  refine va_sld hx hb hXs hbl hbA Lw.vaS hi3 dL_law_723 ?_
  refine lv_aload_n hx hb dL_law_724 rfl (lv_at hl 0 rfl) ?_
  refine lv_iload_n hx hb dL_law_725 rfl (lv_at hl 3 rfl) ?_
  refine lv_iconst (v := 4) hx hb dL_law_726 (by decide +kernel) ?_
  refine lv_iadd hx hb dL_law_727 ?_
  refine va_sld hx hb hXs hbl hbA Lw.vaS hi4 dL_law_728 ?_
  refine l_callG (rest := []) C0 Lw hl (hX.1 0 (by decide)) ((hX.2.1 0 (by decide)).trans rfl) (kX0_twelve (l := l) Lw.2.2.1.1 (ks_nd η) Lw.2.2.1.2.2.2 hX h1) (cwV 4 C0.2.2.2.2.1 (lw_V q1451 q1452 q1453 q105 q1454) rfl rfl rfl hdX0_twelve ⟨Nat.le_of_ble_eq_true rfl, Nat.le_of_ble_eq_true rfl⟩) rfl (Nat.le_of_ble_eq_true rfl) dL_law_729 ⟨Nat.le_trans (Nat.le_add_right _ _) hf.1, Nat.le_trans (Nat.le_add_right _ _) hf.2⟩ (fun H locs nn hnn Lw => ?_)
  have hP1 := PB _ _ _ _ nn η.2.2 hP' hnn
  refine lv_aload_n hx hb dL_law_732 rfl (lv_at hl 2 rfl) ?_
  refine lv_aload_n hx hb dL_law_733 rfl (lv_at hl 0 rfl) ?_
  refine lv_iload_n hx hb dL_law_734 rfl (lv_at hl 3 rfl) ?_
  refine lv_iconst (v := 1) hx hb dL_law_735 (by decide +kernel) ?_
  refine lv_iadd hx hb dL_law_736 ?_
  refine va_sld hx hb hXs hbl hbA Lw.vaS hi1 dL_law_737 ?_
  refine lv_aload_n hx hb dL_law_738 rfl (lv_at hl 0 rfl) ?_
  refine lv_iload_n hx hb dL_law_739 rfl (lv_at hl 3 rfl) ?_
  refine lv_iconst (v := 2) hx hb dL_law_740 (by decide +kernel) ?_
  refine lv_iadd hx hb dL_law_741 ?_
  refine va_sld hx hb hXs hbl hbA Lw.vaS hi2 dL_law_742 ?_
  refine lv_aload_n hx hb dL_law_743 rfl (lv_at hl 0 rfl) ?_
  refine lv_iload_n hx hb dL_law_744 rfl (lv_at hl 3 rfl) ?_
  refine lv_iconst (v := 3) hx hb dL_law_745 (by decide +kernel) ?_
  refine lv_iadd hx hb dL_law_746 ?_
  refine va_sld hx hb hXs hbl hbA Lw.vaS hi3 dL_law_747 ?_
  refine lv_aload_n hx hb dL_law_748 rfl (lv_at hl 0 rfl) ?_
  refine lv_iload_n hx hb dL_law_749 rfl (lv_at hl 3 rfl) ?_
  refine lv_iconst (v := 4) hx hb dL_law_750 (by decide +kernel) ?_
  refine lv_iadd hx hb dL_law_751 ?_
  refine va_sld hx hb hXs hbl hbA Lw.vaS hi4 dL_law_752 ?_
  refine l_callM (rest := [.int r]) C0 Lw hl (kX6_twelve (l := l) Lw.2.2.1.2.1 (fun k hk => Am_of hk) h2) (cwV 4 C0.2.2.2.2.1 (lw_V q2017 q2018 q2019 q114 q2020) rfl rfl rfl hdX6_twelve ⟨Nat.le_of_ble_eq_true rfl, Nat.le_of_ble_eq_true rfl⟩) rfl (Nat.le_of_ble_eq_true rfl) dL_law_753 ⟨Nat.le_trans (Nat.le_add_right _ _) hf.1, Nat.le_trans (Nat.le_add_right _ _) hf.2⟩ (fun H locs n2 hn2 Lw => ?_)
  have hP2 := PB _ _ _ _ n2 η.2.2 hP1 hn2
  refine lv_icmp_eq (tgt := 922) hx hb dL_law_756 (by decide) (fun q => ?_) (fun q => absurd rfl q)
  exact kk _ _ _ H locs _ _ Lw hP2 (Nat.le_add_right _ _) (Nat.le_add_right _ _)
set_option maxHeartbeats 400000 in
theorem lc_piece (hfl : l.flags = flags0) (PB : ∀ j σ η σm n z, PI j σ η σm → η.2.1 ≤ n → PI j σ (η.1, n, z) σm) (PX : ∀ j σ η σm, PI j σ η σm → XOK (ksOf η) η.1) (PL : PL_piece PI) (C0 : LC dc D p s m args meth c b L xs) (Lw : LW s base adm ad dc D σ η σm H locs) {j : Nat} (hj : j < 64) (hP : PI j σ η σm) (hl : lv_has ls 4 [(0, .ref b), (1, .ref (ad 0)), (2, .ref (adm 0)), (3, .int i)]) (hi : ∀ k : Nat, k < 6 → vp_in (i + Int32.ofNat k) L) (hf : cells + 18000 ≤ room_1.cells ∧ slots + 60000 ≤ room_1.slots)
    (kk : ∀ σ' η' σm' H1 locs1 cells1 slots1, LW s base adm ad dc D σ' η' σm' H1 locs1 → PI (j + 1) σ' η' σm' → cells1 ≤ cells + 18000 → slots1 ≤ slots + 60000 → W p l e room_1 s m args below meth c H1 locs1 cells1 slots1 Q (F0 m 922 ls [])) : W p l e room_1 s m args below meth c H locs cells slots Q (F0 m 761 ls []) := by
  have hx := C0.1
  have hb := C0.2.1
  have hX := PX _ _ _ _ hP
  have hbA : ¬ LA s b := Nat.not_le.mpr C0.2.2.2.2.2.2.2.2.1
  have hXs := C0.2.2.2.2.2.2.2.1
  have hbl := C0.2.2.2.2.2.2.2.2.1
  have hi1 : vp_in (i + 1) L := hi 1 (by decide)
  have hi2 : vp_in (i + 2) L := hi 2 (by decide)
  obtain ⟨r, σ', η', σm', h1, h2, hEX, hc1, hc2, hP'⟩ := PL j (xs (i + 1).toNatClampNeg) (xs (i + 2).toNatClampNeg) _ _ _ hj hP
  refine lv_aload_n hx hb dL_law_761 rfl (lv_at hl 1 rfl) ?_
  refine lv_aload_n hx hb dL_law_762 rfl (lv_at hl 0 rfl) ?_
  refine lv_iload_n hx hb dL_law_763 rfl (lv_at hl 3 rfl) ?_
  refine lv_iconst (v := 1) hx hb dL_law_764 (by decide +kernel) ?_
  refine lv_iadd hx hb dL_law_765 ?_
  refine va_sld hx hb hXs hbl hbA Lw.vaS hi1 dL_law_766 ?_
  refine lv_aload_n hx hb dL_law_767 rfl (lv_at hl 0 rfl) ?_
  refine lv_iload_n hx hb dL_law_768 rfl (lv_at hl 3 rfl) ?_
  refine lv_iconst (v := 2) hx hb dL_law_769 (by decide +kernel) ?_
  refine lv_iadd hx hb dL_law_770 ?_
  refine va_sld hx hb hXs hbl hbA Lw.vaS hi2 dL_law_771 ?_
  have hle1 : cells + (η'.2.1 - η.2.1) ≤ room_1.cells := by have := hf.1; omega
  have hle2 : slots + (η'.2.2 - η.2.2) ≤ room_1.slots := by have := hf.2; omega
  refine l_callA (rest := []) C0 Lw hl hEX (hX.1 0 (by decide)) ((hX.2.1 0 (by decide)).trans rfl) (kX0_piece_s0 (l := l) Lw.2.2.1.1 Lw.2.2.1.2.2.2 h1) (cwV 2 C0.2.2.2.2.1 (lw_V q1462 q1463 q1464 q105 q1465) rfl rfl rfl hdX0_piece_s0 ⟨Nat.le_of_ble_eq_true rfl, Nat.le_of_ble_eq_true rfl⟩) rfl (Nat.le_of_ble_eq_true rfl) dL_law_772 ⟨hle1, hle2⟩ (fun H locs nn hnn Lw => ?_)
  have hP1 := PB _ _ _ _ nn η'.2.2 hP' hnn
  refine lv_aload_n hx hb dL_law_775 rfl (lv_at hl 2 rfl) ?_
  refine lv_aload_n hx hb dL_law_776 rfl (lv_at hl 0 rfl) ?_
  refine lv_iload_n hx hb dL_law_777 rfl (lv_at hl 3 rfl) ?_
  refine lv_iconst (v := 1) hx hb dL_law_778 (by decide +kernel) ?_
  refine lv_iadd hx hb dL_law_779 ?_
  refine va_sld hx hb hXs hbl hbA Lw.vaS hi1 dL_law_780 ?_
  refine lv_aload_n hx hb dL_law_781 rfl (lv_at hl 0 rfl) ?_
  refine lv_iload_n hx hb dL_law_782 rfl (lv_at hl 3 rfl) ?_
  refine lv_iconst (v := 2) hx hb dL_law_783 (by decide +kernel) ?_
  refine lv_iadd hx hb dL_law_784 ?_
  refine va_sld hx hb hXs hbl hbA Lw.vaS hi2 dL_law_785 ?_
  refine l_callM (rest := [.int r]) C0 Lw hl (kX6_piece (l := l) Lw.2.2.1.2.1 (fun k hk => Am_of hk) h2) (cwV 2 C0.2.2.2.2.1 (lw_V q2087 q2088 q2089 q114 q2090) rfl rfl rfl hdX6_piece ⟨Nat.le_of_ble_eq_true rfl, Nat.le_of_ble_eq_true rfl⟩) rfl (Nat.le_of_ble_eq_true rfl) dL_law_786 ⟨hle1, hle2⟩ (fun H locs n2 hn2 Lw => ?_)
  have hP2 := PB _ _ _ _ n2 η'.2.2 hP1 hn2
  refine lv_icmp_eq (tgt := 922) hx hb dL_law_789 (by decide) (fun q => ?_) (fun q => absurd rfl q)
  exact kk _ _ _ H locs _ _ Lw hP2 (by omega) (by omega)
set_option maxHeartbeats 400000 in
theorem lc_soonest (hfl : l.flags = flags0) (PB : ∀ j σ η σm n z, PI j σ η σm → η.2.1 ≤ n → PI j σ (η.1, n, z) σm) (PX : ∀ j σ η σm, PI j σ η σm → XOK (ksOf η) η.1) (PL : PL_soonest PI) (C0 : LC dc D p s m args meth c b L xs) (Lw : LW s base adm ad dc D σ η σm H locs) {j : Nat} (hj : j < 64) (hP : PI j σ η σm) (hl : lv_has ls 4 [(0, .ref b), (1, .ref (ad 0)), (2, .ref (adm 0)), (3, .int i)]) (hi : ∀ k : Nat, k < 6 → vp_in (i + Int32.ofNat k) L) (hf : cells + 18000 ≤ room_1.cells ∧ slots + 60000 ≤ room_1.slots)
    (kk : ∀ σ' η' σm' H1 locs1 cells1 slots1, LW s base adm ad dc D σ' η' σm' H1 locs1 → PI (j + 1) σ' η' σm' → cells1 ≤ cells + 18000 → slots1 ≤ slots + 60000 → W p l e room_1 s m args below meth c H1 locs1 cells1 slots1 Q (F0 m 922 ls [])) : W p l e room_1 s m args below meth c H locs cells slots Q (F0 m 794 ls []) := by
  have hx := C0.1
  have hb := C0.2.1
  have hX := PX _ _ _ _ hP
  have hbA : ¬ LA s b := Nat.not_le.mpr C0.2.2.2.2.2.2.2.2.1
  have hXs := C0.2.2.2.2.2.2.2.1
  have hbl := C0.2.2.2.2.2.2.2.2.1
  have hi1 : vp_in (i + 1) L := hi 1 (by decide)
  have hi2 : vp_in (i + 2) L := hi 2 (by decide)
  obtain ⟨r, σ', σm', h1, h2, hP'⟩ := PL j (xs (i + 1).toNatClampNeg) (xs (i + 2).toNatClampNeg) _ _ _ hj hP
  refine lv_aload_n hx hb dL_law_794 rfl (lv_at hl 1 rfl) ?_
  refine lv_aload_n hx hb dL_law_795 rfl (lv_at hl 0 rfl) ?_
  refine lv_iload_n hx hb dL_law_796 rfl (lv_at hl 3 rfl) ?_
  refine lv_iconst (v := 1) hx hb dL_law_797 (by decide +kernel) ?_
  refine lv_iadd hx hb dL_law_798 ?_
  refine va_sld hx hb hXs hbl hbA Lw.vaS hi1 dL_law_799 ?_
  refine lv_aload_n hx hb dL_law_800 rfl (lv_at hl 0 rfl) ?_
  refine lv_iload_n hx hb dL_law_801 rfl (lv_at hl 3 rfl) ?_
  refine lv_iconst (v := 2) hx hb dL_law_802 (by decide +kernel) ?_
  refine lv_iadd hx hb dL_law_803 ?_
  refine va_sld hx hb hXs hbl hbA Lw.vaS hi2 dL_law_804 ?_
  refine l_callG (rest := []) C0 Lw hl (hX.1 0 (by decide)) ((hX.2.1 0 (by decide)).trans rfl) (kX0_soonest (l := l) Lw.2.2.1.1 (ks_nd η) Lw.2.2.1.2.2.2 hX h1) (cwV 2 C0.2.2.2.2.1 (lw_V q1481 q1482 q1483 q105 q1484) rfl rfl rfl hdX0_soonest ⟨Nat.le_of_ble_eq_true rfl, Nat.le_of_ble_eq_true rfl⟩) rfl (Nat.le_of_ble_eq_true rfl) dL_law_805 ⟨Nat.le_trans (Nat.le_add_right _ _) hf.1, Nat.le_trans (Nat.le_add_right _ _) hf.2⟩ (fun H locs nn hnn Lw => ?_)
  have hP1 := PB _ _ _ _ nn η.2.2 hP' hnn
  refine lv_aload_n hx hb dL_law_808 rfl (lv_at hl 2 rfl) ?_
  refine lv_aload_n hx hb dL_law_809 rfl (lv_at hl 0 rfl) ?_
  refine lv_iload_n hx hb dL_law_810 rfl (lv_at hl 3 rfl) ?_
  refine lv_iconst (v := 1) hx hb dL_law_811 (by decide +kernel) ?_
  refine lv_iadd hx hb dL_law_812 ?_
  refine va_sld hx hb hXs hbl hbA Lw.vaS hi1 dL_law_813 ?_
  refine lv_aload_n hx hb dL_law_814 rfl (lv_at hl 0 rfl) ?_
  refine lv_iload_n hx hb dL_law_815 rfl (lv_at hl 3 rfl) ?_
  refine lv_iconst (v := 2) hx hb dL_law_816 (by decide +kernel) ?_
  refine lv_iadd hx hb dL_law_817 ?_
  refine va_sld hx hb hXs hbl hbA Lw.vaS hi2 dL_law_818 ?_
  refine l_callM (rest := [.int r]) C0 Lw hl (kX6_soonest (l := l) Lw.2.2.1.2.1 (fun k hk => Am_of hk) h2) (cwV 2 C0.2.2.2.2.1 (lw_V q2092 q2093 q2094 q114 q2095) rfl rfl rfl hdX6_soonest ⟨Nat.le_of_ble_eq_true rfl, Nat.le_of_ble_eq_true rfl⟩) rfl (Nat.le_of_ble_eq_true rfl) dL_law_819 ⟨Nat.le_trans (Nat.le_add_right _ _) hf.1, Nat.le_trans (Nat.le_add_right _ _) hf.2⟩ (fun H locs n2 hn2 Lw => ?_)
  have hP2 := PB _ _ _ _ n2 η.2.2 hP1 hn2
  refine lv_icmp_eq (tgt := 922) hx hb dL_law_822 (by decide) (fun q => ?_) (fun q => absurd rfl q)
  exact kk _ _ _ H locs _ _ Lw hP2 (Nat.le_add_right _ _) (Nat.le_add_right _ _)
set_option maxHeartbeats 400000 in
theorem lc_striker (hfl : l.flags = flags0) (PB : ∀ j σ η σm n z, PI j σ η σm → η.2.1 ≤ n → PI j σ (η.1, n, z) σm) (PX : ∀ j σ η σm, PI j σ η σm → XOK (ksOf η) η.1) (PL : PL_striker PI) (C0 : LC dc D p s m args meth c b L xs) (Lw : LW s base adm ad dc D σ η σm H locs) {j : Nat} (hj : j < 64) (hP : PI j σ η σm) (hl : lv_has ls 4 [(0, .ref b), (1, .ref (ad 0)), (2, .ref (adm 0)), (3, .int i)]) (hi : ∀ k : Nat, k < 6 → vp_in (i + Int32.ofNat k) L) (hf : cells + 18000 ≤ room_1.cells ∧ slots + 60000 ≤ room_1.slots)
    (kk : ∀ σ' η' σm' H1 locs1 cells1 slots1, LW s base adm ad dc D σ' η' σm' H1 locs1 → PI (j + 1) σ' η' σm' → cells1 ≤ cells + 18000 → slots1 ≤ slots + 60000 → W p l e room_1 s m args below meth c H1 locs1 cells1 slots1 Q (F0 m 922 ls [])) : W p l e room_1 s m args below meth c H locs cells slots Q (F0 m 827 ls []) := by
  have hx := C0.1
  have hb := C0.2.1
  have hX := PX _ _ _ _ hP
  have hbA : ¬ LA s b := Nat.not_le.mpr C0.2.2.2.2.2.2.2.2.1
  have hXs := C0.2.2.2.2.2.2.2.1
  have hbl := C0.2.2.2.2.2.2.2.2.1
  obtain ⟨r, σ', σm', h1, h2, hP'⟩ := PL j  _ _ _ hj hP
  refine lv_aload_n hx hb dL_law_827 rfl (lv_at hl 1 rfl) ?_
  refine l_callG (rest := []) C0 Lw hl (hX.1 0 (by decide)) ((hX.2.1 0 (by decide)).trans rfl) (kX0_striker (l := l) Lw.2.2.1.1 (ks_nd η) Lw.2.2.1.2.2.2 hX h1) (cwV 0 C0.2.2.2.2.1 (lw_V q1429 q1430 q1431 q105 q1432) rfl rfl rfl hdX0_striker ⟨Nat.le_of_ble_eq_true rfl, Nat.le_of_ble_eq_true rfl⟩) rfl (Nat.le_of_ble_eq_true rfl) dL_law_828 ⟨Nat.le_trans (Nat.le_add_right _ _) hf.1, Nat.le_trans (Nat.le_add_right _ _) hf.2⟩ (fun H locs nn hnn Lw => ?_)
  have hP1 := PB _ _ _ _ nn η.2.2 hP' hnn
  refine lv_aload_n hx hb dL_law_831 rfl (lv_at hl 2 rfl) ?_
  refine l_callM (rest := [.int r]) C0 Lw hl (kX6_striker (l := l) Lw.2.2.1.2.1 (fun k hk => Am_of hk) h2) (cwV 0 C0.2.2.2.2.1 (lw_V q2083 q2084 q2085 q114 q2086) rfl rfl rfl hdX6_striker ⟨Nat.le_of_ble_eq_true rfl, Nat.le_of_ble_eq_true rfl⟩) rfl (Nat.le_of_ble_eq_true rfl) dL_law_832 ⟨Nat.le_trans (Nat.le_add_right _ _) hf.1, Nat.le_trans (Nat.le_add_right _ _) hf.2⟩ (fun H locs n2 hn2 Lw => ?_)
  have hP2 := PB _ _ _ _ n2 η.2.2 hP1 hn2
  refine lv_icmp_eq (tgt := 922) hx hb dL_law_835 (by decide) (fun q => ?_) (fun q => absurd rfl q)
  exact kk _ _ _ H locs _ _ Lw hP2 (Nat.le_add_right _ _) (Nat.le_add_right _ _)
set_option maxHeartbeats 400000 in
theorem lc_image (hfl : l.flags = flags0) (PB : ∀ j σ η σm n z, PI j σ η σm → η.2.1 ≤ n → PI j σ (η.1, n, z) σm) (PX : ∀ j σ η σm, PI j σ η σm → XOK (ksOf η) η.1) (PL : PL_image PI) (C0 : LC dc D p s m args meth c b L xs) (Lw : LW s base adm ad dc D σ η σm H locs) {j : Nat} (hj : j < 64) (hP : PI j σ η σm) (hl : lv_has ls 4 [(0, .ref b), (1, .ref (ad 0)), (2, .ref (adm 0)), (3, .int i)]) (hi : ∀ k : Nat, k < 6 → vp_in (i + Int32.ofNat k) L) (hf : cells + 18000 ≤ room_1.cells ∧ slots + 60000 ≤ room_1.slots)
    (kk : ∀ σ' η' σm' H1 locs1 cells1 slots1, LW s base adm ad dc D σ' η' σm' H1 locs1 → PI (j + 1) σ' η' σm' → cells1 ≤ cells + 18000 → slots1 ≤ slots + 60000 → W p l e room_1 s m args below meth c H1 locs1 cells1 slots1 Q (F0 m 922 ls [])) : W p l e room_1 s m args below meth c H locs cells slots Q (F0 m 840 ls []) := by
  have hx := C0.1
  have hb := C0.2.1
  have hX := PX _ _ _ _ hP
  have hbA : ¬ LA s b := Nat.not_le.mpr C0.2.2.2.2.2.2.2.2.1
  have hXs := C0.2.2.2.2.2.2.2.1
  have hbl := C0.2.2.2.2.2.2.2.2.1
  have hi1 : vp_in (i + 1) L := hi 1 (by decide)
  obtain ⟨r, σ', η', σm', h1, h2, hEX, hc1, hc2, hP'⟩ := PL j (xs (i + 1).toNatClampNeg) _ _ _ hj hP
  refine lv_aload_n hx hb dL_law_840 rfl (lv_at hl 1 rfl) ?_
  refine lv_aload_n hx hb dL_law_841 rfl (lv_at hl 0 rfl) ?_
  refine lv_iload_n hx hb dL_law_842 rfl (lv_at hl 3 rfl) ?_
  refine lv_iconst (v := 1) hx hb dL_law_843 (by decide +kernel) ?_
  refine lv_iadd hx hb dL_law_844 ?_
  refine va_sld hx hb hXs hbl hbA Lw.vaS hi1 dL_law_845 ?_
  have hle1 : cells + (η'.2.1 - η.2.1) ≤ room_1.cells := by have := hf.1; omega
  have hle2 : slots + (η'.2.2 - η.2.2) ≤ room_1.slots := by have := hf.2; omega
  refine l_callA (rest := []) C0 Lw hl hEX (hX.1 0 (by decide)) ((hX.2.1 0 (by decide)).trans rfl) (kX0_image_s0 (l := l) Lw.2.2.1.1 Lw.2.2.1.2.2.2 h1) (cwV 1 C0.2.2.2.2.1 (lw_V q500 q501 q502 q105 q503) rfl rfl rfl hdX0_image_s0 ⟨Nat.le_of_ble_eq_true rfl, Nat.le_of_ble_eq_true rfl⟩) rfl (Nat.le_of_ble_eq_true rfl) dL_law_846 ⟨hle1, hle2⟩ (fun H locs nn hnn Lw => ?_)
  have hP1 := PB _ _ _ _ nn η'.2.2 hP' hnn
  refine lv_aload_n hx hb dL_law_849 rfl (lv_at hl 2 rfl) ?_
  refine lv_aload_n hx hb dL_law_850 rfl (lv_at hl 0 rfl) ?_
  refine lv_iload_n hx hb dL_law_851 rfl (lv_at hl 3 rfl) ?_
  refine lv_iconst (v := 1) hx hb dL_law_852 (by decide +kernel) ?_
  refine lv_iadd hx hb dL_law_853 ?_
  refine va_sld hx hb hXs hbl hbA Lw.vaS hi1 dL_law_854 ?_
  refine l_callM (rest := [.int r]) C0 Lw hl (kX6_image (l := l) Lw.2.2.1.2.1 (fun k hk => Am_of hk) h2) (cwV 1 C0.2.2.2.2.1 (lw_V q1717 q1718 q1719 q114 q1720) rfl rfl rfl hdX6_image ⟨Nat.le_of_ble_eq_true rfl, Nat.le_of_ble_eq_true rfl⟩) rfl (Nat.le_of_ble_eq_true rfl) dL_law_855 ⟨hle1, hle2⟩ (fun H locs n2 hn2 Lw => ?_)
  have hP2 := PB _ _ _ _ n2 η'.2.2 hP1 hn2
  refine lv_icmp_eq (tgt := 922) hx hb dL_law_858 (by decide) (fun q => ?_) (fun q => absurd rfl q)
  exact kk _ _ _ H locs _ _ Lw hP2 (by omega) (by omega)
set_option maxHeartbeats 400000 in
theorem lc_back (hfl : l.flags = flags0) (PB : ∀ j σ η σm n z, PI j σ η σm → η.2.1 ≤ n → PI j σ (η.1, n, z) σm) (PX : ∀ j σ η σm, PI j σ η σm → XOK (ksOf η) η.1) (PL : PL_back PI) (C0 : LC dc D p s m args meth c b L xs) (Lw : LW s base adm ad dc D σ η σm H locs) {j : Nat} (hj : j < 64) (hP : PI j σ η σm) (hl : lv_has ls 4 [(0, .ref b), (1, .ref (ad 0)), (2, .ref (adm 0)), (3, .int i)]) (hi : ∀ k : Nat, k < 6 → vp_in (i + Int32.ofNat k) L) (hf : cells + 18000 ≤ room_1.cells ∧ slots + 60000 ≤ room_1.slots)
    (kk : ∀ σ' η' σm' H1 locs1 cells1 slots1, LW s base adm ad dc D σ' η' σm' H1 locs1 → PI (j + 1) σ' η' σm' → cells1 ≤ cells + 18000 → slots1 ≤ slots + 60000 → W p l e room_1 s m args below meth c H1 locs1 cells1 slots1 Q (F0 m 922 ls [])) : W p l e room_1 s m args below meth c H locs cells slots Q (F0 m 863 ls []) := by
  have hx := C0.1
  have hb := C0.2.1
  have hX := PX _ _ _ _ hP
  have hbA : ¬ LA s b := Nat.not_le.mpr C0.2.2.2.2.2.2.2.2.1
  have hXs := C0.2.2.2.2.2.2.2.1
  have hbl := C0.2.2.2.2.2.2.2.2.1
  have hi1 : vp_in (i + 1) L := hi 1 (by decide)
  obtain ⟨r, σ', η', σm', h1, h2, hEX, hc1, hc2, hP'⟩ := PL j (xs (i + 1).toNatClampNeg) _ _ _ hj hP
  refine lv_aload_n hx hb dL_law_863 rfl (lv_at hl 1 rfl) ?_
  refine lv_aload_n hx hb dL_law_864 rfl (lv_at hl 0 rfl) ?_
  refine lv_iload_n hx hb dL_law_865 rfl (lv_at hl 3 rfl) ?_
  refine lv_iconst (v := 1) hx hb dL_law_866 (by decide +kernel) ?_
  refine lv_iadd hx hb dL_law_867 ?_
  refine va_sld hx hb hXs hbl hbA Lw.vaS hi1 dL_law_868 ?_
  have hle1 : cells + (η'.2.1 - η.2.1) ≤ room_1.cells := by have := hf.1; omega
  have hle2 : slots + (η'.2.2 - η.2.2) ≤ room_1.slots := by have := hf.2; omega
  refine l_callA (rest := []) C0 Lw hl hEX (hX.1 0 (by decide)) ((hX.2.1 0 (by decide)).trans rfl) (kX0_back_s0 (l := l) Lw.2.2.1.1 Lw.2.2.1.2.2.2 h1) (cwV 1 C0.2.2.2.2.1 (lw_V q600 q601 q602 q105 q603) rfl rfl rfl hdX0_back_s0 ⟨Nat.le_of_ble_eq_true rfl, Nat.le_of_ble_eq_true rfl⟩) rfl (Nat.le_of_ble_eq_true rfl) dL_law_869 ⟨hle1, hle2⟩ (fun H locs nn hnn Lw => ?_)
  have hP1 := PB _ _ _ _ nn η'.2.2 hP' hnn
  refine lv_aload_n hx hb dL_law_872 rfl (lv_at hl 2 rfl) ?_
  refine lv_aload_n hx hb dL_law_873 rfl (lv_at hl 0 rfl) ?_
  refine lv_iload_n hx hb dL_law_874 rfl (lv_at hl 3 rfl) ?_
  refine lv_iconst (v := 1) hx hb dL_law_875 (by decide +kernel) ?_
  refine lv_iadd hx hb dL_law_876 ?_
  refine va_sld hx hb hXs hbl hbA Lw.vaS hi1 dL_law_877 ?_
  refine l_callM (rest := [.int r]) C0 Lw hl (kX6_back (l := l) Lw.2.2.1.2.1 (fun k hk => Am_of hk) h2) (cwV 1 C0.2.2.2.2.1 (lw_V q1728 q1729 q1730 q114 q1731) rfl rfl rfl hdX6_back ⟨Nat.le_of_ble_eq_true rfl, Nat.le_of_ble_eq_true rfl⟩) rfl (Nat.le_of_ble_eq_true rfl) dL_law_878 ⟨hle1, hle2⟩ (fun H locs n2 hn2 Lw => ?_)
  have hP2 := PB _ _ _ _ n2 η'.2.2 hP1 hn2
  refine lv_icmp_eq (tgt := 922) hx hb dL_law_881 (by decide) (fun q => ?_) (fun q => absurd rfl q)
  exact kk _ _ _ H locs _ _ Lw hP2 (by omega) (by omega)
set_option maxHeartbeats 400000 in
theorem lc_count (hfl : l.flags = flags0) (PB : ∀ j σ η σm n z, PI j σ η σm → η.2.1 ≤ n → PI j σ (η.1, n, z) σm) (PX : ∀ j σ η σm, PI j σ η σm → XOK (ksOf η) η.1) (PL : PL_count PI) (C0 : LC dc D p s m args meth c b L xs) (Lw : LW s base adm ad dc D σ η σm H locs) {j : Nat} (hj : j < 64) (hP : PI j σ η σm) (hl : lv_has ls 4 [(0, .ref b), (1, .ref (ad 0)), (2, .ref (adm 0)), (3, .int i)]) (hi : ∀ k : Nat, k < 6 → vp_in (i + Int32.ofNat k) L) (hf : cells + 18000 ≤ room_1.cells ∧ slots + 60000 ≤ room_1.slots)
    (kk : ∀ σ' η' σm' H1 locs1 cells1 slots1, LW s base adm ad dc D σ' η' σm' H1 locs1 → PI (j + 1) σ' η' σm' → cells1 ≤ cells + 18000 → slots1 ≤ slots + 60000 → W p l e room_1 s m args below meth c H1 locs1 cells1 slots1 Q (F0 m 922 ls [])) : W p l e room_1 s m args below meth c H locs cells slots Q (F0 m 886 ls []) := by
  have hx := C0.1
  have hb := C0.2.1
  have hX := PX _ _ _ _ hP
  have hbA : ¬ LA s b := Nat.not_le.mpr C0.2.2.2.2.2.2.2.2.1
  have hXs := C0.2.2.2.2.2.2.2.1
  have hbl := C0.2.2.2.2.2.2.2.2.1
  have hi1 : vp_in (i + 1) L := hi 1 (by decide)
  obtain ⟨r, σm', h1, h2, hP'⟩ := PL j (xs (i + 1).toNatClampNeg) _ _ _ hj hP
  refine lv_aload_n hx hb dL_law_886 rfl (lv_at hl 1 rfl) ?_
  refine lv_aload_n hx hb dL_law_887 rfl (lv_at hl 0 rfl) ?_
  refine lv_iload_n hx hb dL_law_888 rfl (lv_at hl 3 rfl) ?_
  refine lv_iconst (v := 1) hx hb dL_law_889 (by decide +kernel) ?_
  refine lv_iadd hx hb dL_law_890 ?_
  refine va_sld hx hb hXs hbl hbA Lw.vaS hi1 dL_law_891 ?_
  refine l_callG (rest := []) C0 Lw hl (hX.1 0 (by decide)) ((hX.2.1 0 (by decide)).trans rfl) (kX0_count (l := l) Lw.2.2.1.1 (ks_nd η) Lw.2.2.1.2.2.2 hX h1) (cwV 1 C0.2.2.2.2.1 (lw_V q1499 q1500 q1501 q105 q1502) rfl rfl rfl hdX0_count ⟨Nat.le_of_ble_eq_true rfl, Nat.le_of_ble_eq_true rfl⟩) rfl (Nat.le_of_ble_eq_true rfl) dL_law_892 ⟨Nat.le_trans (Nat.le_add_right _ _) hf.1, Nat.le_trans (Nat.le_add_right _ _) hf.2⟩ (fun H locs nn hnn Lw => ?_)
  have hP1 := PB _ _ _ _ nn η.2.2 hP' hnn
  refine lv_aload_n hx hb dL_law_895 rfl (lv_at hl 2 rfl) ?_
  refine lv_aload_n hx hb dL_law_896 rfl (lv_at hl 0 rfl) ?_
  refine lv_iload_n hx hb dL_law_897 rfl (lv_at hl 3 rfl) ?_
  refine lv_iconst (v := 1) hx hb dL_law_898 (by decide +kernel) ?_
  refine lv_iadd hx hb dL_law_899 ?_
  refine va_sld hx hb hXs hbl hbA Lw.vaS hi1 dL_law_900 ?_
  refine l_callM (rest := [.int r]) C0 Lw hl (kX6_count (l := l) Lw.2.2.1.2.1 (fun k hk => Am_of hk) h2) (cwV 1 C0.2.2.2.2.1 (lw_V q2108 q2109 q2110 q114 q2111) rfl rfl rfl hdX6_count ⟨Nat.le_of_ble_eq_true rfl, Nat.le_of_ble_eq_true rfl⟩) rfl (Nat.le_of_ble_eq_true rfl) dL_law_901 ⟨Nat.le_trans (Nat.le_add_right _ _) hf.1, Nat.le_trans (Nat.le_add_right _ _) hf.2⟩ (fun H locs n2 hn2 Lw => ?_)
  have hP2 := PB _ _ _ _ n2 η.2.2 hP1 hn2
  refine lv_icmp_eq (tgt := 922) hx hb dL_law_904 (by decide) (fun q => ?_) (fun q => absurd rfl q)
  exact kk _ _ _ H locs _ _ Lw hP2 (Nat.le_add_right _ _) (Nat.le_add_right _ _)
set_option maxHeartbeats 400000 in
theorem lc_status (hfl : l.flags = flags0) (PB : ∀ j σ η σm n z, PI j σ η σm → η.2.1 ≤ n → PI j σ (η.1, n, z) σm) (PX : ∀ j σ η σm, PI j σ η σm → XOK (ksOf η) η.1) (PL : PL_status PI) (C0 : LC dc D p s m args meth c b L xs) (Lw : LW s base adm ad dc D σ η σm H locs) {j : Nat} (hj : j < 64) (hP : PI j σ η σm) (hl : lv_has ls 4 [(0, .ref b), (1, .ref (ad 0)), (2, .ref (adm 0)), (3, .int i)]) (hi : ∀ k : Nat, k < 6 → vp_in (i + Int32.ofNat k) L) (hf : cells + 18000 ≤ room_1.cells ∧ slots + 60000 ≤ room_1.slots)
    (kk : ∀ σ' η' σm' H1 locs1 cells1 slots1, LW s base adm ad dc D σ' η' σm' H1 locs1 → PI (j + 1) σ' η' σm' → cells1 ≤ cells + 18000 → slots1 ≤ slots + 60000 → W p l e room_1 s m args below meth c H1 locs1 cells1 slots1 Q (F0 m 922 ls [])) : W p l e room_1 s m args below meth c H locs cells slots Q (F0 m 909 ls []) := by
  have hx := C0.1
  have hb := C0.2.1
  have hX := PX _ _ _ _ hP
  have hbA : ¬ LA s b := Nat.not_le.mpr C0.2.2.2.2.2.2.2.2.1
  have hXs := C0.2.2.2.2.2.2.2.1
  have hbl := C0.2.2.2.2.2.2.2.2.1
  obtain ⟨r, σm', h1, h2, hP'⟩ := PL j  _ _ _ hj hP
  refine lv_aload_n hx hb dL_law_909 rfl (lv_at hl 1 rfl) ?_
  refine l_callG (rest := []) C0 Lw hl (hX.1 0 (by decide)) ((hX.2.1 0 (by decide)).trans rfl) (kX0_status (l := l) Lw.2.2.1.1 (ks_nd η) Lw.2.2.1.2.2.2 hX h1) (cwV 0 C0.2.2.2.2.1 (lw_V q1503 q1504 q1505 q105 q1506) rfl rfl rfl hdX0_status ⟨Nat.le_of_ble_eq_true rfl, Nat.le_of_ble_eq_true rfl⟩) rfl (Nat.le_of_ble_eq_true rfl) dL_law_910 ⟨Nat.le_trans (Nat.le_add_right _ _) hf.1, Nat.le_trans (Nat.le_add_right _ _) hf.2⟩ (fun H locs nn hnn Lw => ?_)
  have hP1 := PB _ _ _ _ nn η.2.2 hP' hnn
  refine lv_aload_n hx hb dL_law_913 rfl (lv_at hl 2 rfl) ?_
  refine l_callM (rest := [.int r]) C0 Lw hl (kX6_status (l := l) Lw.2.2.1.2.1 (fun k hk => Am_of hk) h2) (cwV 0 C0.2.2.2.2.1 (lw_V q2112 q2113 q2114 q114 q2115) rfl rfl rfl hdX6_status ⟨Nat.le_of_ble_eq_true rfl, Nat.le_of_ble_eq_true rfl⟩) rfl (Nat.le_of_ble_eq_true rfl) dL_law_914 ⟨Nat.le_trans (Nat.le_add_right _ _) hf.1, Nat.le_trans (Nat.le_add_right _ _) hf.2⟩ (fun H locs n2 hn2 Lw => ?_)
  have hP2 := PB _ _ _ _ n2 η.2.2 hP1 hn2
  refine lv_icmp_eq (tgt := 922) hx hb dL_law_917 (by decide) (fun q => ?_) (fun q => absurd rfl q)
  exact kk _ _ _ H locs _ _ Lw hP2 (Nat.le_add_right _ _) (Nat.le_add_right _ _)
end LCS
