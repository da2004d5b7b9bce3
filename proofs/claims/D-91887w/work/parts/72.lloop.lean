/-! the law's loop (by wip/gen/gen_l.py) -/
set_option maxRecDepth 100000
section LLP
variable {p : Program} {l : Launch} {e : Env} {s : State} {m : MethodId} {args : Array Value} {below : List Frame} {meth : Method} {c : Code} {H : Heap} {locs : List Loc} {cells slots : Nat} {Q : State → Prop}
variable {ad adm : Nat → Nat} {dc : Nat → ClassId} {D : va_G} {base b L : Nat} {xs : Nat → Int32} {ls : Array Slot} {i : Int32}
variable {PI : Nat → St → Eta → St → Prop}
set_option maxHeartbeats 1000000 in
theorem law_i {j L : Nat} (hj : 6 * j ≤ 500) (hL : L ≤ 384) (h : ¬ (Int32.ofNat L - 6 < Int32.ofNat (6 * j))) : 6 * j + 6 ≤ L := by
  rw [Int32.lt_iff_toInt_lt, Int32.toInt_sub, Int32.toInt_ofNat_of_lt (by omega), Int32.toInt_ofNat_of_lt (by omega), show (6 : Int32).toInt = 6 from rfl, Int.bmod_eq_of_le (by omega) (by omega)] at h
  omega
theorem law_in {j L : Nat} (hL : L ≤ 384) (h : 6 * j + 6 ≤ L) : ∀ k : Nat, k < 6 → vp_in (Int32.ofNat (6 * j) + Int32.ofNat k) L := by
  intro k hk
  rw [← Int32.ofNat_add]
  exact nI_in (c := 6 * j + k) (by omega) (by omega)
set_option maxHeartbeats 1000000 in
theorem law_loop (hfl : l.flags = flags0) (PB : ∀ j σ η σm n z, PI j σ η σm → η.2.1 ≤ n → PI j σ (η.1, n, z) σm) (PX : ∀ j σ η σm, PI j σ η σm → XOK (ksOf η) η.1) (pl_wide : PL_wide PI) (pl_bar : PL_bar PI) (pl_shape : PL_shape PI) (pl_tongs : PL_tongs PI) (pl_terms : PL_terms PI) (pl_feed : PL_feed PI) (pl_end : PL_end PI) (pl_row : PL_row PI) (pl_recipe : PL_recipe PI) (pl_fault : PL_fault PI) (pl_steps : PL_steps PI) (pl_run : PL_run PI) (pl_came : PL_came PI) (pl_iron : PL_iron PI) (pl_welds : PL_welds PI) (pl_heats : PL_heats PI) (pl_plan : PL_plan PI) (pl_reached : PL_reached PI) (pl_even : PL_even PI) (pl_change : PL_change PI) (pl_made : PL_made PI) (pl_twelve : PL_twelve PI) (pl_piece : PL_piece PI) (pl_soonest : PL_soonest PI) (pl_striker : PL_striker PI) (pl_image : PL_image PI) (pl_back : PL_back PI) (pl_count : PL_count PI) (pl_status : PL_status PI)
    (PM : ∀ j σ η σm, PI j σ η σm → PI (j + 1) σ η σm) (C0 : LC dc D p s m args meth c b L xs) (hL : L ≤ 384) (Kend : ∀ H locs ls, lv_has ls 4 [(0, .ref b), (1, .ref (ad 0)), (2, .ref (adm 0))] → va_S (LA s) s.heap H locs → W p l e room_1 s m args below meth c H locs 1200384 5489834 Q (F0 m 928 ls [])) :
    ∀ (n j : Nat), L < 6 * j + 6 * n + 6 → 6 * j ≤ L + 6 → ∀ (σ : St) (η : Eta) (σm : St) (H : Heap) (locs : List Loc) (cells slots : Nat) (ls : Array Slot), LW s base adm ad dc D σ η σm H locs → PI j σ η σm → cells ≤ 85 + 18000 * j → slots ≤ 1200000 + 60000 * j → lv_has ls 4 [(0, .ref b), (1, .ref (ad 0)), (2, .ref (adm 0)), (3, .int (Int32.ofNat (6 * j)))] → W p l e room_1 s m args below meth c H locs cells slots Q (F0 m 18 ls []) := by
  have hx := C0.1
  have hb := C0.2.1
  have hbA : ¬ LA s b := Nat.not_le.mpr C0.2.2.2.2.2.2.2.2.1
  have hXs := C0.2.2.2.2.2.2.2.1
  have hbl := C0.2.2.2.2.2.2.2.2.1
  intro n
  induction n with
  | zero =>
    intro j hn hj σ η σm H locs cells slots ls Lw hP hc hz hl
    refine lv_iload_n hx hb dL_law_18 rfl (lv_at hl 3 rfl) ?_
    refine lv_aload_n hx hb dL_law_19 rfl (lv_at hl 0 rfl) ?_
    refine va_slen hx hb hXs hbl hbA Lw.vaS dL_law_20 ?_
    refine lv_bipush (v := 6) hx hb dL_law_21 (by decide +kernel) ?_
    refine lv_isub hx hb dL_law_23 ?_
    have hce : cells ≤ 1200384 := by omega
    have hze : slots ≤ 5489834 := by omega
    refine lv_icmp_gt (tgt := 928) hx hb dL_law_24 (by decide) (fun _ => ?_) (fun q => ?_)
    · exact W.widen hce hze (Kend _ _ _ (lv_sub hl [0, 1, 2] rfl) Lw.vaS)
    have hj6 := law_i (by omega) hL q
    have hj64 : j < 64 := by omega
    omega
  | succ n ih =>
    intro j hn hj σ η σm H locs cells slots ls Lw hP hc hz hl
    refine lv_iload_n hx hb dL_law_18 rfl (lv_at hl 3 rfl) ?_
    refine lv_aload_n hx hb dL_law_19 rfl (lv_at hl 0 rfl) ?_
    refine va_slen hx hb hXs hbl hbA Lw.vaS dL_law_20 ?_
    refine lv_bipush (v := 6) hx hb dL_law_21 (by decide +kernel) ?_
    refine lv_isub hx hb dL_law_23 ?_
    have hce : cells ≤ 1200384 := by omega
    have hze : slots ≤ 5489834 := by omega
    refine lv_icmp_gt (tgt := 928) hx hb dL_law_24 (by decide) (fun _ => ?_) (fun q => ?_)
    · exact W.widen hce hze (Kend _ _ _ (lv_sub hl [0, 1, 2] rfl) Lw.vaS)
    have hj6 := law_i (by omega) hL q
    have hj64 : j < 64 := by omega
    have hi := law_in hL hj6
    have hi0 : vp_in (Int32.ofNat (6 * j)) L := nI_in (c := 6 * j) (by omega) (by omega)
    have hf : cells + 18000 ≤ room_1.cells ∧ slots + 60000 ≤ room_1.slots := ⟨by show cells + 18000 ≤ 1200384; omega, by show slots + 60000 ≤ 5489834; omega⟩
    have kk : ∀ σ' η' σm' H1 locs1 cells1 slots1, LW s base adm ad dc D σ' η' σm' H1 locs1 → PI (j + 1) σ' η' σm' → cells1 ≤ cells + 18000 → slots1 ≤ slots + 60000 → W p l e room_1 s m args below meth c H1 locs1 cells1 slots1 Q (F0 m 922 ls []) := by
      intro σ' η' σm' H1 locs1 cells1 slots1 Lw hP hc1 hz1
      refine lv_iinc (v := Int32.ofNat (6 * (j + 1))) (lv' := [(3, .int (Int32.ofNat (6 * (j + 1)))), (0, .ref b), (1, .ref (ad 0)), (2, .ref (adm 0))]) hx hb dL_law_922 hl (k := 3) rfl (by rw [show 6 * (j + 1) = 6 * j + 6 by omega, Int32.ofNat_add]; rfl) (by decide) rfl (fun ls hl => ?_)
      refine lv_goto (tgt := 18) hx hb dL_law_925 (by decide) ?_
      have g1 : L < 6 * (j + 1) + 6 * n + 6 := by omega
      have g2 : 6 * (j + 1) ≤ L + 6 := by omega
      have g3 : cells1 ≤ 85 + 18000 * (j + 1) := by omega
      have g4 : slots1 ≤ 1200000 + 60000 * (j + 1) := Nat.le_trans hz1 (Nat.le_trans (Nat.add_le_add_right hz _) (Nat.le_of_eq (by rw [Nat.mul_add, Nat.mul_one, Nat.add_assoc])))
      have hl9 : lv_has ls 4 [(0, .ref b), (1, .ref (ad 0)), (2, .ref (adm 0)), (3, .int (Int32.ofNat (6 * (j + 1))))] := lv_sub hl [1, 2, 3, 0] rfl
      exact ih (j + 1) g1 g2 σ' η' σm' H1 locs1 cells1 slots1 ls Lw hP g3 g4 hl9
    refine lv_aload_n hx hb dL_law_27 rfl (lv_at hl 0 rfl) ?_
    refine lv_iload_n hx hb dL_law_28 rfl (lv_at hl 3 rfl) ?_
    refine va_sld hx hb hXs hbl hbA Lw.vaS hi0 dL_law_29 ?_
    refine lv_bipush (v := 31) hx hb dL_law_30 (by decide +kernel) ?_
    refine lv_iand hx hb dL_law_32 ?_
    refine lv_topi (fun t e_t => ?_)
    clear e_t q
    by_cases c0 : t = 0
    · refine lv_tableIn (tgt := 164) hx hb dL_law_33 (by rw [c0]; decide) (by rw [c0]; decide) (show _ = some 131 by rw [c0]; rfl) (by decide) ?_
      exact lc_wide hfl PB PX pl_wide C0 Lw hj64 hP hl hi hf kk
    by_cases c1 : t = 1
    · refine lv_tableIn (tgt := 187) hx hb dL_law_33 (by rw [c1]; decide) (by rw [c1]; decide) (show _ = some 154 by rw [c1]; rfl) (by decide) ?_
      exact lc_bar hfl PB PX pl_bar C0 Lw hj64 hP hl hi hf kk
    by_cases c2 : t = 2
    · refine lv_tableIn (tgt := 220) hx hb dL_law_33 (by rw [c2]; decide) (by rw [c2]; decide) (show _ = some 187 by rw [c2]; rfl) (by decide) ?_
      exact lc_shape hfl PB PX pl_shape C0 Lw hj64 hP hl hi hf kk
    by_cases c3 : t = 3
    · refine lv_tableIn (tgt := 253) hx hb dL_law_33 (by rw [c3]; decide) (by rw [c3]; decide) (show _ = some 220 by rw [c3]; rfl) (by decide) ?_
      exact lc_tongs hfl PB PX pl_tongs C0 Lw hj64 hP hl hi hf kk
    by_cases c4 : t = 4
    · refine lv_tableIn (tgt := 276) hx hb dL_law_33 (by rw [c4]; decide) (by rw [c4]; decide) (show _ = some 243 by rw [c4]; rfl) (by decide) ?_
      exact lc_terms hfl PB PX pl_terms C0 Lw hj64 hP hl hi hf kk
    by_cases c5 : t = 5
    · refine lv_tableIn (tgt := 309) hx hb dL_law_33 (by rw [c5]; decide) (by rw [c5]; decide) (show _ = some 276 by rw [c5]; rfl) (by decide) ?_
      exact lc_feed hfl PB PX pl_feed C0 Lw hj64 hP hl hi hf kk
    by_cases c6 : t = 6
    · refine lv_tableIn (tgt := 372) hx hb dL_law_33 (by rw [c6]; decide) (by rw [c6]; decide) (show _ = some 339 by rw [c6]; rfl) (by decide) ?_
      exact lc_end hfl PB PX pl_end C0 Lw hj64 hP hl hi hf kk
    by_cases c7 : t = 7
    · refine lv_tableIn (tgt := 395) hx hb dL_law_33 (by rw [c7]; decide) (by rw [c7]; decide) (show _ = some 362 by rw [c7]; rfl) (by decide) ?_
      exact lc_row hfl PB PX pl_row C0 Lw hj64 hP hl hi hf kk
    by_cases c8 : t = 8
    · refine lv_tableIn (tgt := 408) hx hb dL_law_33 (by rw [c8]; decide) (by rw [c8]; decide) (show _ = some 375 by rw [c8]; rfl) (by decide) ?_
      exact lc_recipe hfl PB PX pl_recipe C0 Lw hj64 hP hl hi hf kk
    by_cases c9 : t = 9
    · refine lv_tableIn (tgt := 421) hx hb dL_law_33 (by rw [c9]; decide) (by rw [c9]; decide) (show _ = some 388 by rw [c9]; rfl) (by decide) ?_
      exact lc_fault hfl PB PX pl_fault C0 Lw hj64 hP hl hi hf kk
    by_cases c10 : t = 10
    · refine lv_tableIn (tgt := 434) hx hb dL_law_33 (by rw [c10]; decide) (by rw [c10]; decide) (show _ = some 401 by rw [c10]; rfl) (by decide) ?_
      exact lc_steps hfl PB PX pl_steps C0 Lw hj64 hP hl hi hf kk
    by_cases c11 : t = 11
    · refine lv_tableIn (tgt := 457) hx hb dL_law_33 (by rw [c11]; decide) (by rw [c11]; decide) (show _ = some 424 by rw [c11]; rfl) (by decide) ?_
      exact lc_run hfl PB PX pl_run C0 Lw hj64 hP hl hi hf kk
    by_cases c12 : t = 12
    · refine lv_tableIn (tgt := 480) hx hb dL_law_33 (by rw [c12]; decide) (by rw [c12]; decide) (show _ = some 447 by rw [c12]; rfl) (by decide) ?_
      exact lc_came hfl PB PX pl_came C0 Lw hj64 hP hl hi hf kk
    by_cases c13 : t = 13
    · refine lv_tableIn (tgt := 503) hx hb dL_law_33 (by rw [c13]; decide) (by rw [c13]; decide) (show _ = some 470 by rw [c13]; rfl) (by decide) ?_
      exact lc_iron hfl PB PX pl_iron C0 Lw hj64 hP hl hi hf kk
    by_cases c14 : t = 14
    · refine lv_tableIn (tgt := 526) hx hb dL_law_33 (by rw [c14]; decide) (by rw [c14]; decide) (show _ = some 493 by rw [c14]; rfl) (by decide) ?_
      exact lc_welds hfl PB PX pl_welds C0 Lw hj64 hP hl hi hf kk
    by_cases c15 : t = 15
    · refine lv_tableIn (tgt := 550) hx hb dL_law_33 (by rw [c15]; decide) (by rw [c15]; decide) (show _ = some 517 by rw [c15]; rfl) (by decide) ?_
      exact lc_heats hfl PB PX pl_heats C0 Lw hj64 hP hl hi hf kk
    by_cases c16 : t = 16
    · refine lv_tableIn (tgt := 563) hx hb dL_law_33 (by rw [c16]; decide) (by rw [c16]; decide) (show _ = some 530 by rw [c16]; rfl) (by decide) ?_
      exact lc_plan hfl PB PX pl_plan C0 Lw hj64 hP hl hi hf kk
    by_cases c17 : t = 17
    · refine lv_tableIn (tgt := 596) hx hb dL_law_33 (by rw [c17]; decide) (by rw [c17]; decide) (show _ = some 563 by rw [c17]; rfl) (by decide) ?_
      exact lc_reached hfl PB PX pl_reached C0 Lw hj64 hP hl hi hf kk
    by_cases c18 : t = 18
    · refine lv_tableIn (tgt := 619) hx hb dL_law_33 (by rw [c18]; decide) (by rw [c18]; decide) (show _ = some 586 by rw [c18]; rfl) (by decide) ?_
      exact lc_even hfl PB PX pl_even C0 Lw hj64 hP hl hi hf kk
    by_cases c19 : t = 19
    · refine lv_tableIn (tgt := 632) hx hb dL_law_33 (by rw [c19]; decide) (by rw [c19]; decide) (show _ = some 599 by rw [c19]; rfl) (by decide) ?_
      exact lc_change hfl PB PX pl_change C0 Lw hj64 hP hl hi hf kk
    by_cases c20 : t = 20
    · refine lv_tableIn (tgt := 665) hx hb dL_law_33 (by rw [c20]; decide) (by rw [c20]; decide) (show _ = some 632 by rw [c20]; rfl) (by decide) ?_
      exact lc_made hfl PB PX pl_made C0 Lw hj64 hP hl hi hf kk
    by_cases c21 : t = 21
    · refine lv_tableIn (tgt := 708) hx hb dL_law_33 (by rw [c21]; decide) (by rw [c21]; decide) (show _ = some 675 by rw [c21]; rfl) (by decide) ?_
      exact lc_twelve hfl PB PX pl_twelve C0 Lw hj64 hP hl hi hf kk
    by_cases c22 : t = 22
    · refine lv_tableIn (tgt := 761) hx hb dL_law_33 (by rw [c22]; decide) (by rw [c22]; decide) (show _ = some 728 by rw [c22]; rfl) (by decide) ?_
      exact lc_piece hfl PB PX pl_piece C0 Lw hj64 hP hl hi hf kk
    by_cases c23 : t = 23
    · refine lv_tableIn (tgt := 794) hx hb dL_law_33 (by rw [c23]; decide) (by rw [c23]; decide) (show _ = some 761 by rw [c23]; rfl) (by decide) ?_
      exact lc_soonest hfl PB PX pl_soonest C0 Lw hj64 hP hl hi hf kk
    by_cases c24 : t = 24
    · refine lv_tableIn (tgt := 827) hx hb dL_law_33 (by rw [c24]; decide) (by rw [c24]; decide) (show _ = some 794 by rw [c24]; rfl) (by decide) ?_
      exact lc_striker hfl PB PX pl_striker C0 Lw hj64 hP hl hi hf kk
    by_cases c25 : t = 25
    · refine lv_tableIn (tgt := 840) hx hb dL_law_33 (by rw [c25]; decide) (by rw [c25]; decide) (show _ = some 807 by rw [c25]; rfl) (by decide) ?_
      exact lc_image hfl PB PX pl_image C0 Lw hj64 hP hl hi hf kk
    by_cases c26 : t = 26
    · refine lv_tableIn (tgt := 863) hx hb dL_law_33 (by rw [c26]; decide) (by rw [c26]; decide) (show _ = some 830 by rw [c26]; rfl) (by decide) ?_
      exact lc_back hfl PB PX pl_back C0 Lw hj64 hP hl hi hf kk
    by_cases c27 : t = 27
    · refine lv_tableIn (tgt := 886) hx hb dL_law_33 (by rw [c27]; decide) (by rw [c27]; decide) (show _ = some 853 by rw [c27]; rfl) (by decide) ?_
      exact lc_count hfl PB PX pl_count C0 Lw hj64 hP hl hi hf kk
    by_cases c28 : t = 28
    · refine lv_tableIn (tgt := 909) hx hb dL_law_33 (by rw [c28]; decide) (by rw [c28]; decide) (show _ = some 876 by rw [c28]; rfl) (by decide) ?_
      exact lc_status hfl PB PX pl_status C0 Lw hj64 hP hl hi hf kk
    refine lv_tableOut (tgt := 922) hx hb dL_law_33 (by have q0 := lv_neT (a := 0) c0 (by decide); have q1 := lv_neT (a := 1) c1 (by decide); have q2 := lv_neT (a := 2) c2 (by decide); have q3 := lv_neT (a := 3) c3 (by decide); have q4 := lv_neT (a := 4) c4 (by decide); have q5 := lv_neT (a := 5) c5 (by decide); have q6 := lv_neT (a := 6) c6 (by decide); have q7 := lv_neT (a := 7) c7 (by decide); have q8 := lv_neT (a := 8) c8 (by decide); have q9 := lv_neT (a := 9) c9 (by decide); have q10 := lv_neT (a := 10) c10 (by decide); have q11 := lv_neT (a := 11) c11 (by decide); have q12 := lv_neT (a := 12) c12 (by decide); have q13 := lv_neT (a := 13) c13 (by decide); have q14 := lv_neT (a := 14) c14 (by decide); have q15 := lv_neT (a := 15) c15 (by decide); have q16 := lv_neT (a := 16) c16 (by decide); have q17 := lv_neT (a := 17) c17 (by decide); have q18 := lv_neT (a := 18) c18 (by decide); have q19 := lv_neT (a := 19) c19 (by decide); have q20 := lv_neT (a := 20) c20 (by decide); have q21 := lv_neT (a := 21) c21 (by decide); have q22 := lv_neT (a := 22) c22 (by decide); have q23 := lv_neT (a := 23) c23 (by decide); have q24 := lv_neT (a := 24) c24 (by decide); have q25 := lv_neT (a := 25) c25 (by decide); have q26 := lv_neT (a := 26) c26 (by decide); have q27 := lv_neT (a := 27) c27 (by decide); have q28 := lv_neT (a := 28) c28 (by decide); omega) (by decide) ?_
    exact kk _ _ _ _ _ _ _ Lw (PM _ _ _ _ hP) (Nat.le_add_right _ _) (Nat.le_add_right _ _)
end LLP
