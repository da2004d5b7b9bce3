/-! HotIron: its static cells, and what its methods do over them, lifted (by wip/gen/gen_x.py) -/
set_option maxRecDepth 100000
def xFlX0 : List (Nat × Nat) := [(0, 0), (2, 1), (2, 2), (2, 10), (2, 11), (0, 0), (0, 0), (0, 0), (2, 12), (2, 16), (2, 20), (0, 0), (2, 24), (2, 35), (0, 0), (0, 0), (2, 46), (2, 47), (2, 48), (2, 49)]
def xFlX1 : List (Nat × Nat) := [(2, 3), (2, 4), (2, 5), (2, 6), (2, 8), (0, 0), (0, 0)]
def xFlX2 (q0 : Nat) : List (Nat × Nat) := [(2, (q0 + 1)), (2, (q0 + 2)), (2, (q0 + 3)), (0, 0), (0, 0), (0, 0), (0, 0), (0, 0), (0, 0), (0, 0), (0, 0), (0, 0), (0, 0), (0, 0), (0, 0), (0, 0), (0, 0), (0, 0), (0, 0), (0, 0), (0, 0), (0, 0), (3, 0)]
def xFlX3 (q0 : Nat) : List (Nat × Nat) := [(2, (q0 + 1)), (2, (q0 + 2)), (2, (q0 + 3)), (2, (q0 + 4)), (2, (q0 + 5)), (2, (q0 + 6)), (2, (q0 + 7)), (2, (q0 + 8)), (2, (q0 + 9)), (2, (q0 + 10)), (0, 0), (0, 0), (0, 0), (0, 0), (0, 0), (0, 0), (0, 0), (2, 0)]
def xFlX4 : List (Nat × Nat) := [(0, 0), (0, 0)]
def xFlX5 : List (Nat × Nat) := [(2, 50), (2, 51), (2, 52), (2, 53), (0, 0), (0, 0), (2, 0)]
def xFlAL : List (Nat × Nat) := [(0, 0), (3, 0), (0, 0)]
def xSh : Nat → Sh := fun k => match k with
  | 0 => (0, 0, 0, xFlX0)
  | 1 => (1, 0, 7, [])
  | 2 => (0, 1, 0, xFlX1)
  | 3 => (1, 0, 5, [])
  | 4 => (1, 0, 5, [])
  | 5 => (1, 0, 5, [])
  | 6 => (0, 24, 0, xFlAL)
  | 7 => (2, 3, 2, [])
  | 8 => (0, 24, 0, xFlAL)
  | 9 => (2, 3, 2, [])
  | 10 => (2, 4, 2, [])
  | 11 => (1, 1, 400, [])
  | 12 => (0, 2, 0, xFlX2 12)
  | 13 => (1, 0, 5, [])
  | 14 => (1, 0, 5, [])
  | 15 => (1, 0, 5, [])
  | 16 => (0, 2, 0, xFlX2 16)
  | 17 => (1, 0, 5, [])
  | 18 => (1, 0, 5, [])
  | 19 => (1, 0, 5, [])
  | 20 => (0, 2, 0, xFlX2 20)
  | 21 => (1, 0, 5, [])
  | 22 => (1, 0, 5, [])
  | 23 => (1, 0, 5, [])
  | 24 => (0, 3, 0, xFlX3 24)
  | 25 => (1, 1, 59049, [])
  | 26 => (1, 1, 59049, [])
  | 27 => (1, 1, 59049, [])
  | 28 => (1, 0, 59049, [])
  | 29 => (1, 0, 59049, [])
  | 30 => (1, 0, 59049, [])
  | 31 => (1, 0, 5, [])
  | 32 => (1, 0, 7, [])
  | 33 => (1, 0, 6, [])
  | 34 => (1, 0, 7, [])
  | 35 => (0, 3, 0, xFlX3 35)
  | 36 => (1, 1, 59049, [])
  | 37 => (1, 1, 59049, [])
  | 38 => (1, 1, 59049, [])
  | 39 => (1, 0, 59049, [])
  | 40 => (1, 0, 59049, [])
  | 41 => (1, 0, 59049, [])
  | 42 => (1, 0, 5, [])
  | 43 => (1, 0, 7, [])
  | 44 => (1, 0, 6, [])
  | 45 => (1, 0, 7, [])
  | 46 => (1, 0, 5, [])
  | 47 => (1, 0, 60, [])
  | 48 => (0, 4, 0, xFlX4)
  | 49 => (0, 5, 0, xFlX5)
  | 50 => (1, 0, 8, [])
  | 51 => (1, 0, 8, [])
  | 52 => (1, 0, 8, [])
  | _ => (1, 0, 3, [])
/-- the static cells stand, at their shapes -/
def XOK (ks : List Nat) (sh : Nat → Sh) : Prop := (∀ k, k < 54 → k ∈ ks) ∧ (∀ k, k < 54 → sh k = xSh k) ∧ ∀ k, (sh k).1 ≠ 9 → k ∈ ks
def isW (q : Nat) : Prop := q = 12 ∨ q = 16 ∨ q = 20
theorem isW_12 : isW 12 := by unfold isW; omega
theorem isW_16 : isW 16 := by unfold isW; omega
theorem isW_20 : isW 20 := by unfold isW; omega
theorem xW_s {q : Nat} (h : isW q) : xSh q = (0, 2, 0, xFlX2 q) := by rcases h with rfl|rfl|rfl <;> rfl
theorem xW_l {q : Nat} (h : isW q) : q < 54 := by rcases h with rfl|rfl|rfl <;> decide
theorem xW_s1 {q : Nat} (h : isW q) : xSh (q + 1) = (1, 0, 5, []) := by rcases h with rfl|rfl|rfl <;> rfl
theorem xW_l1 {q : Nat} (h : isW q) : q + 1 < 54 := by rcases h with rfl|rfl|rfl <;> decide
theorem xW_s2 {q : Nat} (h : isW q) : xSh (q + 2) = (1, 0, 5, []) := by rcases h with rfl|rfl|rfl <;> rfl
theorem xW_l2 {q : Nat} (h : isW q) : q + 2 < 54 := by rcases h with rfl|rfl|rfl <;> decide
theorem xW_s3 {q : Nat} (h : isW q) : xSh (q + 3) = (1, 0, 5, []) := by rcases h with rfl|rfl|rfl <;> rfl
theorem xW_l3 {q : Nat} (h : isW q) : q + 3 < 54 := by rcases h with rfl|rfl|rfl <;> decide
def isP (q : Nat) : Prop := q = 24 ∨ q = 35
theorem isP_24 : isP 24 := by unfold isP; omega
theorem isP_35 : isP 35 := by unfold isP; omega
theorem xP_s {q : Nat} (h : isP q) : xSh q = (0, 3, 0, xFlX3 q) := by rcases h with rfl|rfl <;> rfl
theorem xP_l {q : Nat} (h : isP q) : q < 54 := by rcases h with rfl|rfl <;> decide
theorem xP_s1 {q : Nat} (h : isP q) : xSh (q + 1) = (1, 1, 59049, []) := by rcases h with rfl|rfl <;> rfl
theorem xP_l1 {q : Nat} (h : isP q) : q + 1 < 54 := by rcases h with rfl|rfl <;> decide
theorem xP_s2 {q : Nat} (h : isP q) : xSh (q + 2) = (1, 1, 59049, []) := by rcases h with rfl|rfl <;> rfl
theorem xP_l2 {q : Nat} (h : isP q) : q + 2 < 54 := by rcases h with rfl|rfl <;> decide
theorem xP_s3 {q : Nat} (h : isP q) : xSh (q + 3) = (1, 1, 59049, []) := by rcases h with rfl|rfl <;> rfl
theorem xP_l3 {q : Nat} (h : isP q) : q + 3 < 54 := by rcases h with rfl|rfl <;> decide
theorem xP_s4 {q : Nat} (h : isP q) : xSh (q + 4) = (1, 0, 59049, []) := by rcases h with rfl|rfl <;> rfl
theorem xP_l4 {q : Nat} (h : isP q) : q + 4 < 54 := by rcases h with rfl|rfl <;> decide
theorem xP_s5 {q : Nat} (h : isP q) : xSh (q + 5) = (1, 0, 59049, []) := by rcases h with rfl|rfl <;> rfl
theorem xP_l5 {q : Nat} (h : isP q) : q + 5 < 54 := by rcases h with rfl|rfl <;> decide
theorem xP_s6 {q : Nat} (h : isP q) : xSh (q + 6) = (1, 0, 59049, []) := by rcases h with rfl|rfl <;> rfl
theorem xP_l6 {q : Nat} (h : isP q) : q + 6 < 54 := by rcases h with rfl|rfl <;> decide
theorem xP_s7 {q : Nat} (h : isP q) : xSh (q + 7) = (1, 0, 5, []) := by rcases h with rfl|rfl <;> rfl
theorem xP_l7 {q : Nat} (h : isP q) : q + 7 < 54 := by rcases h with rfl|rfl <;> decide
theorem xP_s8 {q : Nat} (h : isP q) : xSh (q + 8) = (1, 0, 7, []) := by rcases h with rfl|rfl <;> rfl
theorem xP_l8 {q : Nat} (h : isP q) : q + 8 < 54 := by rcases h with rfl|rfl <;> decide
theorem xP_s9 {q : Nat} (h : isP q) : xSh (q + 9) = (1, 0, 6, []) := by rcases h with rfl|rfl <;> rfl
theorem xP_l9 {q : Nat} (h : isP q) : q + 9 < 54 := by rcases h with rfl|rfl <;> decide
theorem xP_s10 {q : Nat} (h : isP q) : xSh (q + 10) = (1, 0, 7, []) := by rcases h with rfl|rfl <;> rfl
theorem xP_l10 {q : Nat} (h : isP q) : q + 10 < 54 := by rcases h with rfl|rfl <;> decide
-- HotIron, field 0: status I
-- HotIron, field 1: refused [I
-- HotIron, field 2: state LHotIron$State;
-- HotIron, field 3: images [LHotIron$State;
-- HotIron, field 4: tape [B
-- HotIron, field 5: taped I
-- HotIron, field 6: fault I
-- HotIron, field 7: version I
-- HotIron, field 8: latest LHotIron$Work;
-- HotIron, field 9: work LHotIron$Work;
-- HotIron, field 10: other LHotIron$Work;
-- HotIron, field 11: ran Z
-- HotIron, field 12: plans LHotIron$Plans;
-- HotIron, field 13: tried LHotIron$Plans;
-- HotIron, field 14: triedAt I
-- HotIron, field 15: triedFar I
-- HotIron, field 16: evenBar [I
-- HotIron, field 17: twelve [I
-- HotIron, field 18: hand LHotIron$Hand;
-- HotIron, field 19: gate LHotIron$Gate;
-- HotIron$State, field 0: bar [I
-- HotIron$State, field 1: shape [I
-- HotIron$State, field 2: terms [I
-- HotIron$State, field 3: recipes Ljava/util/ArrayList;
-- HotIron$State, field 4: pieces Ljava/util/ArrayList;
-- HotIron$State, field 5: cells I
-- HotIron$State, field 6: tongs I
-- HotIron$Work, field 0: iron [I
-- HotIron$Work, field 1: punched [I
-- HotIron$Work, field 2: odds [I
-- HotIron$Work, field 3: cells I
-- HotIron$Work, field 4: tongs I
-- HotIron$Work, field 5: blows I
-- HotIron$Work, field 6: sand I
-- HotIron$Work, field 7: hot I
-- HotIron$Work, field 8: left I
-- HotIron$Work, field 9: heats I
-- HotIron$Work, field 10: struck I
-- HotIron$Work, field 11: moves I
-- HotIron$Work, field 12: duds I
-- HotIron$Work, field 13: cold I
-- HotIron$Work, field 14: scale I
-- HotIron$Work, field 15: shoulders I
-- HotIron$Work, field 16: holes I
-- HotIron$Work, field 17: welds I
-- HotIron$Work, field 18: folds I
-- HotIron$Work, field 19: cracks I
-- HotIron$Work, field 20: latest I
-- HotIron$Work, field 21: dropped I
-- HotIron$Work, field 22: hand LHotIron$Hand;
-- HotIron$Plans, field 0: layers [B
-- HotIron$Plans, field 1: good [B
-- HotIron$Plans, field 2: on [B
-- HotIron$Plans, field 3: seen [I
-- HotIron$Plans, field 4: found [I
-- HotIron$Plans, field 5: depth [I
-- HotIron$Plans, field 6: powers [I
-- HotIron$Plans, field 7: counts [I
-- HotIron$Plans, field 8: places [I
-- HotIron$Plans, field 9: rows [I
-- HotIron$Plans, field 10: cells I
-- HotIron$Plans, field 11: blows I
-- HotIron$Plans, field 12: many I
-- HotIron$Plans, field 13: mark I
-- HotIron$Plans, field 14: made I
-- HotIron$Plans, field 15: heats I
-- HotIron$Plans, field 16: laid I
-- HotIron$Plans, field 17: this$0 LHotIron;
-- HotIron$Hand, field 0: slip I
-- HotIron$Hand, field 1: drawn I
-- HotIron$Gate, field 0: begin [I
-- HotIron$Gate, field 1: end [I
-- HotIron$Gate, field 2: best [I
-- HotIron$Gate, field 3: free [I
-- HotIron$Gate, field 4: soonest I
-- HotIron$Gate, field 5: fires I
-- HotIron$Gate, field 6: this$0 LHotIron;
-- X0_refuse
def fX0_refuse (a1 : Int32) (σ : St) : Option (Int32 × St) := letB (pI σ 0 0 a1) (fun σ1 => letB (-a1) (fun x2 => ckB x2 7 (ckB x2 7 (letB (pA σ1 1 x2.toNatClampNeg ((gA σ1 1 x2.toNatClampNeg) + 1)) (fun σ5 => some (a1, σ5))))))
-- X0_done
def fX0_done (a1 : Int32) (σ : St) : Option (Int32 × St) := letB (pI σ 0 0 0) (fun σ1 => some (a1, σ1))
-- X0_in
def fX0_in (a0 : Int32) (a1 : Int32) (a2 : Int32) : Option (Int32) := if a0 < a1 then some 0 else if a2 < a0 then some 0 else some 1
-- X0_told
def fX0_told (a1 : Int32) (σ : St) : Option (Int32 × St) := letB (pI σ 0 7 ((gI σ 0 7) + 1)) (fun σ1 => bn2 (fX0_done a1 (σ1)) (fun r2 σ3 => some (r2, σ3)))
-- X0_isCell
def fX0_isCell (a1 : Int32) (σ : St) : Option (Int32) := if a1 < 0 then some 0 else if (gI σ 2 5) ≤ a1 then some 0 else some 1
-- X0_isIron
def fX0_isIron (a0 : Int32) : Option (Int32) := bn1 (fX0_in a0 1 9) (fun r1 => ckZ r1 (some r1))
-- X0_wide
def bX0_wide_33 (a2 : Int32) (a3 : Int32) (σ : St) : Option ((St) ⊕ (Int32 × St)) := if 5 ≤ a3 then some (.inl (σ)) else ckB a3 5 (letB (pA σ 3 a3.toNatClampNeg 3) (fun σ3 => ckB a3 5 (letB (pA σ3 4 a3.toNatClampNeg 3) (fun σ5 => letB (a3 + 1) (fun x6 => some (.inr (x6, σ5)))))))
def xX0_wide_33 (a2 : Int32)  (ex : St) : Option (Int32 × St) := bn2 (fX0_told a2 (ex)) (fun r1 σ2 => some (r1, σ2))
def fX0_wide_33 (a2 : Int32) (a3 : Int32) (σ : St) : Option (Int32 × St) := bn1 (iter (fun v : Int32 × St => bX0_wide_33 a2 v.1 v.2) FU (a3, σ)) (fun ex => xX0_wide_33 a2 ex)
def fX0_wide (a1 : Int32) (σ : St) : Option (Int32 × St) := bn1 (fX0_in a1 3 5) (fun r1 => if r1 = 0 then bn2 (fX0_refuse (-1) (σ)) (fun r5 σ6 => some (r5, σ6)) else letB (gI σ 2 5) (fun x3 => letB (pI σ 2 5 a1) (fun σ4 => fX0_wide_33 x3 0 (σ4))))
-- X0_puts_c3
def fX0_puts_c3 (a2 : Int32) (a3 : Int32) (σ : St) : Option (Int32 × St) := bn1 (fX0_isCell a2 (σ)) (fun r1 => if r1 = 0 then bn2 (fX0_refuse (-1) (σ)) (fun r3 σ4 => some (r3, σ4)) else bn1 (fX0_isIron a3) (fun r5 => if r5 = 0 then bn2 (fX0_refuse (-1) (σ)) (fun r13 σ14 => some (r13, σ14)) else ckB a2 5 (letB (gA σ 3 a2.toNatClampNeg) (fun x8 => ckB a2 5 (letB (pA σ 3 a2.toNatClampNeg a3) (fun σ10 => bn2 (fX0_told x8 (σ10)) (fun r11 σ12 => some (r11, σ12))))))))
-- X0_bar
def fX0_bar (a1 : Int32) (a2 : Int32) (σ : St) : Option (Int32 × St) := bn2 (fX0_puts_c3 a1 a2 (σ)) (fun r1 σ2 => some (r1, σ2))
-- X0_puts_c4
def fX0_puts_c4 (a2 : Int32) (a3 : Int32) (σ : St) : Option (Int32 × St) := bn1 (fX0_isCell a2 (σ)) (fun r1 => if r1 = 0 then bn2 (fX0_refuse (-1) (σ)) (fun r3 σ4 => some (r3, σ4)) else bn1 (fX0_isIron a3) (fun r5 => if r5 = 0 then bn2 (fX0_refuse (-1) (σ)) (fun r13 σ14 => some (r13, σ14)) else ckB a2 5 (letB (gA σ 4 a2.toNatClampNeg) (fun x8 => ckB a2 5 (letB (pA σ 4 a2.toNatClampNeg a3) (fun σ10 => bn2 (fX0_told x8 (σ10)) (fun r11 σ12 => some (r11, σ12))))))))
-- X0_shape
def fX0_shape (a1 : Int32) (a2 : Int32) (σ : St) : Option (Int32 × St) := bn2 (fX0_puts_c4 a1 a2 (σ)) (fun r1 σ2 => some (r1, σ2))
-- X0_tongs
def fX0_tongs (a1 : Int32) (σ : St) : Option (Int32 × St) := if a1 = 0 then bn2 (fX0_refuse (-1) (σ)) (fun r2 σ3 => some (r2, σ3)) else if (a1 &&& (-1023)) = 0 then letB (gI σ 2 6) (fun x5 => letB (pI σ 2 6 a1) (fun σ6 => bn2 (fX0_told x5 (σ6)) (fun r7 σ8 => some (r7, σ8)))) else bn2 (fX0_refuse (-1) (σ)) (fun r9 σ10 => some (r9, σ10))
-- X0_terms
def fX0_terms_56 (a1 : Int32) (a2 : Int32) (a3 : Int32) (t0 : Int32) (t1 : Int32) (σ : St) : Option (Int32 × St) := bn1 (fX0_in t0 t1 a3) (fun r1 => if r1 = 0 then bn2 (fX0_refuse (-1) (σ)) (fun r9 σ10 => some (r9, σ10)) else ckB a1 5 (letB (gA σ 5 a1.toNatClampNeg) (fun x4 => ckB a1 5 (letB (pA σ 5 a1.toNatClampNeg a2) (fun σ6 => bn2 (fX0_told x4 (σ6)) (fun r7 σ8 => some (r7, σ8)))))))
def fX0_terms_45 (a1 : Int32) (a2 : Int32) (t0 : Int32) (σ : St) : Option (Int32 × St) := if a1 = 0 then fX0_terms_56 a1 a2 t0 a2 1 (σ) else fX0_terms_56 a1 a2 t0 a2 0 (σ)
def fX0_terms (a1 : Int32) (a2 : Int32) (σ : St) : Option (Int32 × St) := bn1 (fX0_in a1 0 4) (fun r1 => if r1 = 0 then bn2 (fX0_refuse (-1) (σ)) (fun r6 σ7 => some (r6, σ7)) else if a1 = 0 then fX0_terms_45 a1 a2 4 (σ) else if a1 = 1 then fX0_terms_45 a1 a2 100 (σ) else if a1 = 4 then fX0_terms_45 a1 a2 50 (σ) else fX0_terms_45 a1 a2 60 (σ))
-- X0_four
def bX0_four_3 (a1 : Int32) (a2 : Int32) (σ : St) : Option ((St) ⊕ (Int32 × St)) := if a2 < 0 then some (.inl (σ)) else ckB (gI σ 0 5) 400 (letB (pA σ 11 (gI σ 0 5).toNatClampNeg (vp_nar .byte ((a1 >>> (a2 &&& 31)).toInt8.toInt32))) (fun σ3 => letB (pI σ3 0 5 ((gI σ3 0 5) + 1)) (fun σ4 => letB (a2 + (-8)) (fun x5 => some (.inr (x5, σ4))))))
def xX0_four_3 (a1 : Int32)  (ex : St) : Option (St) := some ex
def fX0_four_3 (a1 : Int32) (a2 : Int32) (σ : St) : Option (St) := bn1 (iter (fun v : Int32 × St => bX0_four_3 a1 v.1 v.2) FU (a2, σ)) (fun ex => xX0_four_3 a1 ex)
def fX0_four (a1 : Int32) (σ : St) : Option (St) := fX0_four_3 a1 24 (σ)
-- X0_feed
def fX0_feed (a1 : Int32) (a2 : Int32) (a3 : Int32) (a4 : Int32) (a5 : Int32) (σ : St) : Option (Int32 × St) := if ((gI σ 0 5) + 20) ≤ 400 then bn1 (fX0_four a1 (σ)) (fun σ3 => bn1 (fX0_four a2 (σ3)) (fun σ5 => bn1 (fX0_four a3 (σ5)) (fun σ7 => bn1 (fX0_four a4 (σ7)) (fun σ9 => bn1 (fX0_four a5 (σ9)) (fun σ11 => some (gI σ11 0 5, σ11)))))) else some ((-1), σ)
-- X0_end
def fX0_end (a1 : Int32) (σ : St) : Option (Int32 × St) := if a1 < 0 then some ((-1), σ) else if a1 ≤ (gI σ 0 5) then letB (pI σ 0 5 a1) (fun σ3 => some (a1, σ3)) else some ((-1), σ)
-- X0_fault
def fX0_fault (σ : St) : Option (Int32) := some (gI σ 0 6)
-- X0_came
def fX0_came (a1 : Int32) (σ : St) : Option (Int32) := if (gI σ 0 11) = 0 then some (-1000) else if a1 = 0 then some (gI σ 12 9) else if a1 = 1 then some (gI σ 12 10) else if a1 = 2 then some (gI σ 12 11) else if a1 = 3 then some (gI σ 12 12) else if a1 = 4 then some (gI σ 12 13) else if a1 = 5 then some (gI σ 12 14) else if a1 = 6 then some (gI σ 12 21) else if a1 = 7 then some (gI σ 12 15) else if a1 = 8 then some (gI σ 12 16) else if a1 = 9 then some (gI σ 12 17) else if a1 = 10 then some (gI σ 12 18) else if a1 = 11 then some (gI σ 12 19) else if a1 = 12 then ckB 1 5 (some ((gI σ 12 9) * (gA σ 5 (1 : Int32).toNatClampNeg))) else if a1 = 13 then ckB 2 5 (ckB 3 5 (some (((gI σ 12 9) * (gA σ 5 (2 : Int32).toNatClampNeg)) + ((gI σ 12 10) * (gA σ 5 (3 : Int32).toNatClampNeg))))) else some (-1000)
-- X2_isCell
def fX2_isCell (q0 : Nat) (a1 : Int32) (σ : St) : Option (Int32) := if a1 < 0 then some 0 else if (gI σ q0 3) ≤ a1 then some 0 else some 1
-- X0_iron
def fX0_iron (a1 : Int32) (σ : St) : Option (Int32) := if (gI σ 0 11) = 0 then some (-1) else bn1 (fX2_isCell 12 a1 (σ)) (fun r2 => if r2 = 0 then some (-1) else ckB a1 5 (some (gA σ 13 a1.toNatClampNeg)))
-- X0_common
def bX0_common_6 (a4 : Int64) (a6 : Int64) : Option ((Int64) ⊕ (Int64 × Int64)) := if a6 = 0 then some (.inl a4) else ckL a6 (letB (a4 - (a4 / a6) * a6) (fun x3 => some (.inr (a6, x3))))
def xX0_common_6   (ex : Int64) : Option (Int64) := some ex
def fX0_common_6 (a4 : Int64) (a6 : Int64) : Option (Int64) := bn1 (iter (fun v : Int64 × Int64 => bX0_common_6 v.1 v.2) FU (a4, a6)) (fun ex => xX0_common_6 ex)
def fX0_common (a0 : Int64) (a2 : Int64) : Option (Int64) := fX0_common_6 a0 a2
-- X0_welds
def fX0_welds_80 (a1 : Int32) (a2 : Int64) (a4 : Int64) (σ : St) : Option (Int64) := bn1 (fX0_common a2 a4) (fun r1 => if a1 = 0 then ckL r1 (some (a2 / r1)) else ckL r1 (some (a4 / r1)))
def bX0_welds_28 (a1 : Int32) (a2 : Int64) (a4 : Int64) (a6 : Int32) (σ : St) : Option ((Int64 × Int64) ⊕ (Int64 × Int64 × Int32)) := if 5 ≤ a6 then some (.inl (a2, a4)) else if (((gI σ 12 17) >>> (a6 &&& 31)) &&& 1) = 0 then letB (a6 + 1) (fun x7 => some (.inr (a2, a4, x7))) else ckB a6 5 (letB (a2 * ((gA σ 15 a6.toNatClampNeg).toInt64)) (fun x4 => letB (a4 * 100) (fun x5 => letB (a6 + 1) (fun x6 => some (.inr (x4, x5, x6))))))
def xX0_welds_28 (a1 : Int32) (σ : St) (ex : Int64 × Int64) : Option (Int64) := fX0_welds_80 a1 ex.1 ex.2 (σ)
def fX0_welds_28 (a1 : Int32) (a2 : Int64) (a4 : Int64) (a6 : Int32) (σ : St) : Option (Int64) := bn1 (iter (fun v : Int64 × Int64 × Int32 => bX0_welds_28 a1 v.1 v.2.1 v.2.2 σ) FU (a2, a4, a6)) (fun ex => xX0_welds_28 a1 σ ex)
def fX0_welds (a1 : Int32) (σ : St) : Option (Int64) := if (gI σ 0 11) = 0 then some (-1) else bn1 (fX0_in a1 0 1) (fun r2 => if r2 = 0 then some (-1) else fX0_welds_28 a1 1 1 0 (σ))
-- X3_begins
def bX3_begins_41 (q0 : Nat) (a2 : Int32) (a3 : Int32) (σ : St) : Option ((St) ⊕ (Int32 × Int32 × St)) := if a3 < 0 then some (.inl (σ)) else ckB a3 5 (letB (pA σ (q0 + 7) a3.toNatClampNeg a2) (fun σ3 => letB (a2 * 9) (fun x4 => letB (a3 + (-1)) (fun x5 => some (.inr (x4, x5, σ3))))))
def xX3_begins_41 (q0 : Nat)  (ex : St) : Option (St) := some ex
def fX3_begins_41 (q0 : Nat) (a2 : Int32) (a3 : Int32) (σ : St) : Option (St) := bn1 (iter (fun v : Int32 × Int32 × St => bX3_begins_41 q0 v.1 v.2.1 v.2.2) FU (a2, a3, σ)) (fun ex => xX3_begins_41 q0 ex)
def fX3_begins (q0 : Nat) (a1 : Int32) (σ : St) : Option (St) := letB (pI σ q0 10 (gI σ 2 5)) (fun σ1 => ckB 0 5 (letB (pI σ1 q0 11 ((gA σ1 5 (0 : Int32).toNatClampNeg) + a1)) (fun σ3 => letB ((gI σ3 q0 10) - 1) (fun x4 => fX3_begins_41 q0 1 x4 (σ3)))))
-- X3_totalOf_c3
def bX3_totalOf_c3_4 (q0 : Nat) (a2 : Int32) (a3 : Int32) (σ : St) : Option ((Int32) ⊕ (Int32 × Int32)) := if (gI σ q0 10) ≤ a3 then some (.inl a2) else ckB a3 5 (letB (a2 + (gA σ 3 a3.toNatClampNeg)) (fun x3 => letB (a3 + 1) (fun x4 => some (.inr (x3, x4)))))
def xX3_totalOf_c3_4 (q0 : Nat) (σ : St) (ex : Int32) : Option (Int32) := some ex
def fX3_totalOf_c3_4 (q0 : Nat) (a2 : Int32) (a3 : Int32) (σ : St) : Option (Int32) := bn1 (iter (fun v : Int32 × Int32 => bX3_totalOf_c3_4 q0 v.1 v.2 σ) FU (a2, a3)) (fun ex => xX3_totalOf_c3_4 q0 σ ex)
def fX3_totalOf_c3 (q0 : Nat) (σ : St) : Option (Int32) := fX3_totalOf_c3_4 q0 0 0 (σ)
-- X3_totalOf_c4
def bX3_totalOf_c4_4 (q0 : Nat) (a2 : Int32) (a3 : Int32) (σ : St) : Option ((Int32) ⊕ (Int32 × Int32)) := if (gI σ q0 10) ≤ a3 then some (.inl a2) else ckB a3 5 (letB (a2 + (gA σ 4 a3.toNatClampNeg)) (fun x3 => letB (a3 + 1) (fun x4 => some (.inr (x3, x4)))))
def xX3_totalOf_c4_4 (q0 : Nat) (σ : St) (ex : Int32) : Option (Int32) := some ex
def fX3_totalOf_c4_4 (q0 : Nat) (a2 : Int32) (a3 : Int32) (σ : St) : Option (Int32) := bn1 (iter (fun v : Int32 × Int32 => bX3_totalOf_c4_4 q0 v.1 v.2 σ) FU (a2, a3)) (fun ex => xX3_totalOf_c4_4 q0 σ ex)
def fX3_totalOf_c4 (q0 : Nat) (σ : St) : Option (Int32) := fX3_totalOf_c4_4 q0 0 0 (σ)
-- X3_rowOf_c3
def bX3_rowOf_c3_4 (q0 : Nat) (a2 : Int32) (a3 : Int32) (σ : St) : Option ((Int32) ⊕ (Int32 × Int32)) := if (gI σ q0 10) ≤ a3 then some (.inl a2) else ckB a3 5 (letB (((9 * a2) + (gA σ 3 a3.toNatClampNeg)) - 1) (fun x3 => letB (a3 + 1) (fun x4 => some (.inr (x3, x4)))))
def xX3_rowOf_c3_4 (q0 : Nat) (σ : St) (ex : Int32) : Option (Int32) := some ex
def fX3_rowOf_c3_4 (q0 : Nat) (a2 : Int32) (a3 : Int32) (σ : St) : Option (Int32) := bn1 (iter (fun v : Int32 × Int32 => bX3_rowOf_c3_4 q0 v.1 v.2 σ) FU (a2, a3)) (fun ex => xX3_rowOf_c3_4 q0 σ ex)
def fX3_rowOf_c3 (q0 : Nat) (σ : St) : Option (Int32) := fX3_rowOf_c3_4 q0 0 0 (σ)
-- X3_rowOf_c4
def bX3_rowOf_c4_4 (q0 : Nat) (a2 : Int32) (a3 : Int32) (σ : St) : Option ((Int32) ⊕ (Int32 × Int32)) := if (gI σ q0 10) ≤ a3 then some (.inl a2) else ckB a3 5 (letB (((9 * a2) + (gA σ 4 a3.toNatClampNeg)) - 1) (fun x3 => letB (a3 + 1) (fun x4 => some (.inr (x3, x4)))))
def xX3_rowOf_c4_4 (q0 : Nat) (σ : St) (ex : Int32) : Option (Int32) := some ex
def fX3_rowOf_c4_4 (q0 : Nat) (a2 : Int32) (a3 : Int32) (σ : St) : Option (Int32) := bn1 (iter (fun v : Int32 × Int32 => bX3_rowOf_c4_4 q0 v.1 v.2 σ) FU (a2, a3)) (fun ex => xX3_rowOf_c4_4 q0 σ ex)
def fX3_rowOf_c4 (q0 : Nat) (σ : St) : Option (Int32) := fX3_rowOf_c4_4 q0 0 0 (σ)
-- X3_is_cq1
def fX3_is_cq1 (q0 : Nat) (a2 : Int32) (a3 : Int32) (σ : St) : Option (Int32) := ckB a2 59049 (if (((gA σ (q0 + 1) a2.toNatClampNeg) >>> (a3 &&& 31)) &&& 1) = 1 then some 1 else some 0)
-- X3_ironAt
def fX3_ironAt (q0 : Nat) (a1 : Int32) (a2 : Int32) (σ : St) : Option (Int32) := ckB a2 5 (ckD (gA σ (q0 + 7) a2.toNatClampNeg) (some (((a1 / (gA σ (q0 + 7) a2.toNatClampNeg)) - ((a1 / (gA σ (q0 + 7) a2.toNatClampNeg)) / 9) * 9) + 1)))
-- X3_adds
def fX3_adds (q0 : Nat) (a1 : Int32) (a2 : Int32) (σ : St) : Option (St) := ckB a1 59049 (if (gA σ (q0 + 4) a1.toNatClampNeg) = (gI σ q0 13) then some σ else ckB a1 59049 (letB (pA σ (q0 + 4) a1.toNatClampNeg (gI σ q0 13)) (fun σ4 => ckB (gI σ4 q0 12) 59049 (letB (pA σ4 (q0 + 5) (gI σ4 q0 12).toNatClampNeg a1) (fun σ6 => ckB (gI σ6 q0 12) 59049 (letB (pA σ6 (q0 + 6) (gI σ6 q0 12).toNatClampNeg a2) (fun σ8 => letB (pI σ8 q0 12 ((gI σ8 q0 12) + 1)) (fun σ9 => some σ9))))))))
-- X3_strikes
def fX3_strikes_35 (q0 : Nat) (a1 : Int32) (a2 : Int32) (a3 : Int32) (σ : St) : Option (St) := ckB a1 59049 (letB (gA σ (q0 + 5) a1.toNatClampNeg) (fun x2 => bn1 (fX3_ironAt q0 x2 a2 (σ)) (fun r3 => if r3 ≤ 1 then some σ else bn1 (fX3_ironAt q0 x2 a3 (σ)) (fun r5 => if 9 ≤ r5 then some σ else ckB a2 5 (ckB a3 5 (ckB a1 59049 (bn1 (fX3_adds q0 ((x2 - (gA σ (q0 + 7) a2.toNatClampNeg)) + (gA σ (q0 + 7) a3.toNatClampNeg)) ((gA σ (q0 + 6) a1.toNatClampNeg) + 1) (σ)) (fun σ11 => some σ11))))))))
def fX3_strikes (q0 : Nat) (a1 : Int32) (a2 : Int32) (a3 : Int32) (a4 : Int32) (σ : St) : Option (St) := if a3 < 0 then some σ else if (gI σ q0 10) ≤ a3 then some σ else if (if 0 ≤ (a2 - a4) then (a2 - a4) else 0 - (a2 - a4)) ≤ 1 then fX3_strikes_35 q0 a1 a2 a3 (σ) else if (if 0 ≤ (a3 - a4) then (a3 - a4) else 0 - (a3 - a4)) ≤ 1 then fX3_strikes_35 q0 a1 a2 a3 (σ) else some σ
-- X3_leads
def fX3_leads_58 (q0 : Nat) (a1 : Int32) (a2 : Int32) (a4 : Int32) (σ : St) : Option ((Int32) ⊕ (Int32 × Int32)) := letB (a4 + 1) (fun x1 => some (.inr (1, x1)))
def bX3_leads_150 (q0 : Nat) (a2 : Int32) (a4 : Int32) (a5 : Int32) (σ : St) : Option ((St) ⊕ (Int32 × St)) := if (if (a2 + 2) < ((gI σ q0 10) - 1) then (a2 + 2) else ((gI σ q0 10) - 1)) < a5 then some (.inl (σ)) else bn1 (fX3_strikes q0 a4 a5 (a5 - 1) a2 (σ)) (fun σ3 => bn1 (fX3_strikes q0 a4 a5 (a5 + 1) a2 (σ3)) (fun σ5 => letB (a5 + 1) (fun x6 => some (.inr (x6, σ5)))))
def xX3_leads_150 (q0 : Nat) (a2 : Int32) (a4 : Int32)  (ex : St) : Option ((St) ⊕ (Int32 × St)) := letB (a4 + 1) (fun x1 => some (.inr (x1, ex)))
def fX3_leads_150 (q0 : Nat) (a2 : Int32) (a4 : Int32) (a5 : Int32) (σ : St) : Option ((St) ⊕ (Int32 × St)) := bn1 (iter (fun v : Int32 × St => bX3_leads_150 q0 a2 a4 v.1 v.2) FU (a5, σ)) (fun ex => xX3_leads_150 q0 a2 a4 ex)
def bX3_leads_115 (q0 : Nat) (a2 : Int32) (a4 : Int32) (σ : St) : Option ((St) ⊕ (Int32 × St)) := if (gI σ q0 12) ≤ a4 then some (.inl (σ)) else ckB a4 59049 (if (gA σ (q0 + 6) a4.toNatClampNeg) = (gI σ q0 11) then letB (a4 + 1) (fun x5 => some (.inr (x5, σ))) else letB (if 0 < (a2 - 2) then (a2 - 2) else 0) (fun x4 => fX3_leads_150 q0 a2 a4 x4 (σ)))
def xX3_leads_115 (q0 : Nat) (a2 : Int32)  (ex : St) : Option (St) := some ex
def fX3_leads_115 (q0 : Nat) (a2 : Int32) (a4 : Int32) (σ : St) : Option (St) := bn1 (iter (fun v : Int32 × St => bX3_leads_115 q0 a2 v.1 v.2) FU (a4, σ)) (fun ex => xX3_leads_115 q0 a2 ex)
def fX3_leads_70 (q0 : Nat) (a1 : Int32) (a2 : Int32) (a3 : Int32) (σ : St) : Option (St) := if a3 = 0 then some σ else letB (pI σ q0 13 ((gI σ q0 13) + 1)) (fun σ2 => bn1 (fX3_ironAt q0 a1 a2 (σ2)) (fun r3 => if r3 ≤ 1 then bn1 (fX3_adds q0 a1 0 (σ2)) (fun σ6 => fX3_leads_115 q0 a2 0 (σ6)) else ckB a2 5 (bn1 (fX3_adds q0 (a1 - (gA σ2 (q0 + 7) a2.toNatClampNeg)) 0 (σ2)) (fun σ9 => fX3_leads_115 q0 a2 0 (σ9)))))
def bX3_leads_10 (q0 : Nat) (a1 : Int32) (a2 : Int32) (a3 : Int32) (a4 : Int32) (σ : St) : Option ((Int32) ⊕ (Int32 × Int32)) := if (gI σ q0 10) ≤ a4 then some (.inl a3) else if a3 = 0 then if (if 0 ≤ (a4 - a2) then (a4 - a2) else 0 - (a4 - a2)) ≤ 1 then letB (a4 + 1) (fun x4 => some (.inr (0, x4))) else bn1 (fX3_ironAt q0 a1 a4 (σ)) (fun r5 => if (((gI σ 2 6) >>> (r5 &&& 31)) &&& 1) = 1 then fX3_leads_58 q0 a1 a2 a4 (σ) else letB (a4 + 1) (fun x7 => some (.inr (0, x7)))) else fX3_leads_58 q0 a1 a2 a4 (σ)
def xX3_leads_10 (q0 : Nat) (a1 : Int32) (a2 : Int32) (σ : St) (ex : Int32) : Option (St) := fX3_leads_70 q0 a1 a2 ex (σ)
def fX3_leads_10 (q0 : Nat) (a1 : Int32) (a2 : Int32) (a3 : Int32) (a4 : Int32) (σ : St) : Option (St) := bn1 (iter (fun v : Int32 × Int32 => bX3_leads_10 q0 a1 a2 v.1 v.2 σ) FU (a3, a4)) (fun ex => xX3_leads_10 q0 a1 a2 σ ex)
def fX3_leads (q0 : Nat) (a1 : Int32) (a2 : Int32) (σ : St) : Option (St) := letB (pI σ q0 12 0) (fun σ1 => fX3_leads_10 q0 a1 a2 0 0 (σ1))
-- X3_enters
def fX3_enters (q0 : Nat) (a1 : Int32) (a2 : Int32) (σ : St) : Option (St) := bn1 (fX3_is_cq1 q0 a1 a2 (σ)) (fun r1 => if r1 = 0 then ckB a1 59049 (ckB a1 59049 (letB (pA σ (q0 + 1) a1.toNatClampNeg (vp_nar .byte (((gA σ (q0 + 1) a1.toNatClampNeg) ||| ((1 <<< (a2 &&& 31)).toInt8.toInt32)).toInt8.toInt32))) (fun σ5 => ckB a2 7 (ckB a2 7 (letB (pA σ5 (q0 + 8) a2.toNatClampNeg ((gA σ5 (q0 + 8) a2.toNatClampNeg) + 1)) (fun σ8 => some σ8)))))) else some σ)
-- X3_lays
def bX3_lays_134 (q0 : Nat) (a2 : Int32) (a3 : Int32) (a4 : Int32) (a5 : Int32) (a6 : Int32) (σ : St) : Option ((St) ⊕ (Int32 × St)) := if (gI σ q0 12) ≤ a6 then some (.inl (σ)) else ckB a6 59049 (bn1 (fX3_enters q0 (gA σ (q0 + 5) a6.toNatClampNeg) ((gI σ q0 16) + 1) (σ)) (fun σ4 => letB (a6 + 1) (fun x5 => some (.inr (x5, σ4)))))
def xX3_lays_134 (q0 : Nat) (a2 : Int32) (a3 : Int32) (a4 : Int32) (a5 : Int32)  (ex : St) : Option ((St) ⊕ (Int32 × St)) := letB (a5 + 1) (fun x1 => some (.inr (x1, ex)))
def fX3_lays_134 (q0 : Nat) (a2 : Int32) (a3 : Int32) (a4 : Int32) (a5 : Int32) (a6 : Int32) (σ : St) : Option ((St) ⊕ (Int32 × St)) := bn1 (iter (fun v : Int32 × St => bX3_lays_134 q0 a2 a3 a4 a5 v.1 v.2) FU (a6, σ)) (fun ex => xX3_lays_134 q0 a2 a3 a4 a5 ex)
def bX3_lays_97 (q0 : Nat) (a2 : Int32) (a3 : Int32) (a4 : Int32) (a5 : Int32) (σ : St) : Option ((St) ⊕ (Int32 × St)) := if (gI σ q0 10) ≤ a5 then some (.inl (σ)) else bn1 (fX3_is_cq1 q0 a4 (gI σ q0 16) (σ)) (fun r2 => if r2 = 0 then some (.inl (σ)) else bn1 (fX3_leads q0 a4 a5 (σ)) (fun σ5 => fX3_lays_134 q0 a2 a3 a4 a5 0 (σ5)))
def xX3_lays_97 (q0 : Nat) (a2 : Int32) (a3 : Int32) (a4 : Int32)  (ex : St) : Option ((St) ⊕ (Int32 × St)) := letB (a4 + 1) (fun x1 => some (.inr (x1, ex)))
def fX3_lays_97 (q0 : Nat) (a2 : Int32) (a3 : Int32) (a4 : Int32) (a5 : Int32) (σ : St) : Option ((St) ⊕ (Int32 × St)) := bn1 (iter (fun v : Int32 × St => bX3_lays_97 q0 a2 a3 a4 v.1 v.2) FU (a5, σ)) (fun ex => xX3_lays_97 q0 a2 a3 a4 ex)
def fX3_lays_178 (q0 : Nat) (a2 : Int32) (a3 : Int32) (σ : St) : Option ((St) ⊕ (St)) := letB (pI σ q0 16 ((gI σ q0 16) + 1)) (fun σ1 => some (.inr (σ1)))
def bX3_lays_87 (q0 : Nat) (a2 : Int32) (a3 : Int32) (a4 : Int32) (σ : St) : Option ((St) ⊕ (Int32 × St)) := if 59049 ≤ a4 then some (.inl (σ)) else fX3_lays_97 q0 a2 a3 a4 0 (σ)
def xX3_lays_87 (q0 : Nat) (a2 : Int32) (a3 : Int32)  (ex : St) : Option ((St) ⊕ (St)) := fX3_lays_178 q0 a2 a3 (ex)
def fX3_lays_87 (q0 : Nat) (a2 : Int32) (a3 : Int32) (a4 : Int32) (σ : St) : Option ((St) ⊕ (St)) := bn1 (iter (fun v : Int32 × St => bX3_lays_87 q0 a2 a3 v.1 v.2) FU (a4, σ)) (fun ex => xX3_lays_87 q0 a2 a3 ex)
def fX3_lays_72 (q0 : Nat) (a2 : Int32) (a3 : Int32) (σ : St) : Option ((St) ⊕ (St)) := ckB ((gI σ q0 16) + 1) 7 (letB (pA σ (q0 + 8) ((gI σ q0 16) + 1).toNatClampNeg 0) (fun σ2 => fX3_lays_87 q0 a2 a3 0 (σ2)))
def fX3_lays_191 (q0 : Nat) (a2 : Int32) (σ : St) : Option (Int32 × St) := if a2 = (-1) then some ((-1), σ) else bn1 (fX3_is_cq1 q0 a2 (gI σ q0 16) (σ)) (fun r2 => if r2 = 0 then some ((-1), σ) else some (gI σ q0 16, σ))
def bX3_lays_43 (q0 : Nat) (a2 : Int32) (a3 : Int32) (σ : St) : Option ((St) ⊕ (St)) := if a3 ≤ (gI σ q0 16) then some (.inl (σ)) else if a2 = (-1) then fX3_lays_72 q0 a2 a3 (σ) else bn1 (fX3_is_cq1 q0 a2 (gI σ q0 16) (σ)) (fun r3 => if r3 = 0 then fX3_lays_72 q0 a2 a3 (σ) else some (.inl (σ)))
def xX3_lays_43 (q0 : Nat) (a2 : Int32) (a3 : Int32)  (ex : St) : Option (Int32 × St) := fX3_lays_191 q0 a2 (ex)
def fX3_lays_43 (q0 : Nat) (a2 : Int32) (a3 : Int32) (σ : St) : Option (Int32 × St) := bn1 (iter (fun v : St => bX3_lays_43 q0 a2 a3 v) FU (σ)) (fun ex => xX3_lays_43 q0 a2 a3 ex)
def fX3_lays_24 (q0 : Nat) (a1 : Int32) (a2 : Int32) (a3 : Int32) (σ : St) : Option (Int32 × St) := ckB a1 59049 (letB (pA σ (q0 + 1) a1.toNatClampNeg (vp_nar .byte 1)) (fun σ2 => ckB 0 7 (letB (pA σ2 (q0 + 8) (0 : Int32).toNatClampNeg 1) (fun σ4 => letB (pI σ4 q0 16 0) (fun σ5 => fX3_lays_43 q0 a2 a3 (σ5))))))
def bX3_lays_3 (q0 : Nat) (a1 : Int32) (a2 : Int32) (a3 : Int32) (a4 : Int32) (σ : St) : Option ((St) ⊕ (Int32 × St)) := if 59049 ≤ a4 then some (.inl (σ)) else ckB a4 59049 (letB (pA σ (q0 + 1) a4.toNatClampNeg (vp_nar .byte 0)) (fun σ3 => letB (a4 + 1) (fun x4 => some (.inr (x4, σ3)))))
def xX3_lays_3 (q0 : Nat) (a1 : Int32) (a2 : Int32) (a3 : Int32)  (ex : St) : Option (Int32 × St) := fX3_lays_24 q0 a1 a2 a3 (ex)
def fX3_lays_3 (q0 : Nat) (a1 : Int32) (a2 : Int32) (a3 : Int32) (a4 : Int32) (σ : St) : Option (Int32 × St) := bn1 (iter (fun v : Int32 × St => bX3_lays_3 q0 a1 a2 a3 v.1 v.2) FU (a4, σ)) (fun ex => xX3_lays_3 q0 a1 a2 a3 ex)
def fX3_lays (q0 : Nat) (a1 : Int32) (a2 : Int32) (a3 : Int32) (σ : St) : Option (Int32 × St) := fX3_lays_3 q0 a1 a2 a3 0 (σ)
-- X3_fewest_c3
def fX3_fewest_c3 (q0 : Nat) (a2 : Int32) (σ : St) : Option (Int32 × St) := bn1 (fX3_begins q0 a2 (σ)) (fun σ2 => bn1 (fX3_totalOf_c3 q0 (σ2)) (fun r3 => bn1 (fX3_totalOf_c4 q0 (σ2)) (fun r4 => letB (r3 - r4) (fun x5 => bn1 (fX0_in x5 0 6) (fun r6 => if r6 = 0 then some ((-1), σ2) else bn1 (fX3_rowOf_c3 q0 (σ2)) (fun r8 => bn1 (fX3_rowOf_c4 q0 (σ2)) (fun r9 => bn2 (fX3_lays q0 r8 r9 6 (σ2)) (fun r10 σ11 => some (r10, σ11)))))))))
-- X3_is_cq2
def fX3_is_cq2 (q0 : Nat) (a2 : Int32) (a3 : Int32) (σ : St) : Option (Int32) := ckB a2 59049 (if (((gA σ (q0 + 2) a2.toNatClampNeg) >>> (a3 &&& 31)) &&& 1) = 1 then some 1 else some 0)
-- X3_leadsTo_cq2
def bX3_leadsTo_cq2_9 (q0 : Nat) (a4 : Int32) (a5 : Int32) (σ : St) : Option (((Unit) ⊕ (Unit)) ⊕ (Int32)) := if (gI σ q0 12) ≤ a5 then some (.inl (.inr ())) else ckB a5 59049 (bn1 (fX3_is_cq2 q0 (gA σ (q0 + 5) a5.toNatClampNeg) a4 (σ)) (fun r3 => if r3 = 0 then letB (a5 + 1) (fun x5 => some (.inr x5)) else some (.inl (.inl ()))))
def xX3_leadsTo_cq2_9 (q0 : Nat) (a4 : Int32) (σ : St) (ex : (Unit) ⊕ (Unit)) : Option (Int32 × St) := match ex with
  | (.inl ()) => some (1, σ)
  | (.inr ()) => some (0, σ)
def fX3_leadsTo_cq2_9 (q0 : Nat) (a4 : Int32) (a5 : Int32) (σ : St) : Option (Int32 × St) := bn1 (iter (fun v : Int32 => bX3_leadsTo_cq2_9 q0 a4 v σ) FU a5) (fun ex => xX3_leadsTo_cq2_9 q0 a4 σ ex)
def fX3_leadsTo_cq2 (q0 : Nat) (a1 : Int32) (a2 : Int32) (a4 : Int32) (σ : St) : Option (Int32 × St) := bn1 (fX3_leads q0 a1 a2 (σ)) (fun σ2 => fX3_leadsTo_cq2_9 q0 a4 0 (σ2))
-- X3_marks
def fX3_marks_112 (q0 : Nat) (a2 : Int32) (a3 : Int32) (a4 : Int32) (σ : St) : Option ((St) ⊕ (Int32 × St)) := if a4 = 0 then letB (a3 + 1) (fun x2 => some (.inr (x2, σ))) else ckB a3 59049 (ckB a3 59049 (letB (pA σ (q0 + 2) a3.toNatClampNeg (vp_nar .byte (((gA σ (q0 + 2) a3.toNatClampNeg) ||| ((1 <<< (a2 &&& 31)).toInt8.toInt32)).toInt8.toInt32))) (fun σ5 => letB (a3 + 1) (fun x6 => some (.inr (x6, σ5))))))
def bX3_marks_63 (q0 : Nat) (a2 : Int32) (a3 : Int32) (a4 : Int32) (a5 : Int32) (σ : St) : Option ((Int32 × St) ⊕ (Int32 × Int32 × St)) := if (gI σ q0 10) ≤ a5 then some (.inl (a4, σ)) else if a4 = 0 then bn1 (fX3_is_cq1 q0 a3 a2 (σ)) (fun r3 => if r3 = 0 then some (.inl (a4, σ)) else bn2 (fX3_leadsTo_cq2 q0 a3 a5 (a2 + 1) (σ)) (fun r5 σ6 => letB (a5 + 1) (fun x7 => some (.inr (r5, x7, σ6))))) else some (.inl (a4, σ))
def xX3_marks_63 (q0 : Nat) (a2 : Int32) (a3 : Int32)  (ex : Int32 × St) : Option ((St) ⊕ (Int32 × St)) := fX3_marks_112 q0 a2 a3 ex.1 (ex.2)
def fX3_marks_63 (q0 : Nat) (a2 : Int32) (a3 : Int32) (a4 : Int32) (a5 : Int32) (σ : St) : Option ((St) ⊕ (Int32 × St)) := bn1 (iter (fun v : Int32 × Int32 × St => bX3_marks_63 q0 a2 a3 v.1 v.2.1 v.2.2) FU (a4, a5, σ)) (fun ex => xX3_marks_63 q0 a2 a3 ex)
def bX3_marks_51 (q0 : Nat) (a2 : Int32) (a3 : Int32) (σ : St) : Option ((St) ⊕ (Int32 × St)) := if 59049 ≤ a3 then some (.inl (σ)) else fX3_marks_63 q0 a2 a3 0 0 (σ)
def xX3_marks_51 (q0 : Nat) (a2 : Int32)  (ex : St) : Option ((St) ⊕ (Int32 × St)) := letB (a2 + (-1)) (fun x1 => some (.inr (x1, ex)))
def fX3_marks_51 (q0 : Nat) (a2 : Int32) (a3 : Int32) (σ : St) : Option ((St) ⊕ (Int32 × St)) := bn1 (iter (fun v : Int32 × St => bX3_marks_51 q0 a2 v.1 v.2) FU (a3, σ)) (fun ex => xX3_marks_51 q0 a2 ex)
def bX3_marks_45 (q0 : Nat) (a2 : Int32) (σ : St) : Option ((St) ⊕ (Int32 × St)) := if a2 < 0 then some (.inl (σ)) else fX3_marks_51 q0 a2 0 (σ)
def xX3_marks_45 (q0 : Nat)  (ex : St) : Option (St) := some ex
def fX3_marks_45 (q0 : Nat) (a2 : Int32) (σ : St) : Option (St) := bn1 (iter (fun v : Int32 × St => bX3_marks_45 q0 v.1 v.2) FU (a2, σ)) (fun ex => xX3_marks_45 q0 ex)
def fX3_marks_21 (q0 : Nat) (a1 : Int32) (σ : St) : Option (St) := ckB a1 59049 (ckB a1 59049 (letB (pA σ (q0 + 2) a1.toNatClampNeg (vp_nar .byte (((gA σ (q0 + 2) a1.toNatClampNeg) ||| ((1 <<< ((gI σ q0 15) &&& 31)).toInt8.toInt32)).toInt8.toInt32))) (fun σ3 => letB ((gI σ3 q0 15) - 1) (fun x4 => fX3_marks_45 q0 x4 (σ3)))))
def bX3_marks_2 (q0 : Nat) (a1 : Int32) (a2 : Int32) (σ : St) : Option ((St) ⊕ (Int32 × St)) := if 59049 ≤ a2 then some (.inl (σ)) else ckB a2 59049 (letB (pA σ (q0 + 2) a2.toNatClampNeg (vp_nar .byte 0)) (fun σ3 => letB (a2 + 1) (fun x4 => some (.inr (x4, σ3)))))
def xX3_marks_2 (q0 : Nat) (a1 : Int32)  (ex : St) : Option (St) := fX3_marks_21 q0 a1 (ex)
def fX3_marks_2 (q0 : Nat) (a1 : Int32) (a2 : Int32) (σ : St) : Option (St) := bn1 (iter (fun v : Int32 × St => bX3_marks_2 q0 a1 v.1 v.2) FU (a2, σ)) (fun ex => xX3_marks_2 q0 a1 ex)
def fX3_marks (q0 : Nat) (a1 : Int32) (σ : St) : Option (St) := fX3_marks_2 q0 a1 0 (σ)
-- X3_is_cq3
def fX3_is_cq3 (q0 : Nat) (a2 : Int32) (a3 : Int32) (σ : St) : Option (Int32) := ckB a2 59049 (if (((gA σ (q0 + 3) a2.toNatClampNeg) >>> (a3 &&& 31)) &&& 1) = 1 then some 1 else some 0)
-- X3_leadsOn
def bX3_leadsOn_39 (q0 : Nat) (a1 : Int32) (a2 : Int32) (a3 : Int32) (a4 : Int32) (a5 : Int32) (σ : St) : Option ((Int32 × St) ⊕ (Int32 × Int32 × St)) := if (gI σ q0 12) ≤ a5 then some (.inl (a3, σ)) else ckB a5 59049 (bn1 (fX3_is_cq2 q0 (gA σ (q0 + 5) a5.toNatClampNeg) (a1 + 1) (σ)) (fun r3 => if r3 = 0 then letB (a5 + 1) (fun x11 => some (.inr (a3, x11, σ))) else ckB a5 59049 (letB (gA σ (q0 + 5) a5.toNatClampNeg) (fun x6 => ckB x6 59049 (ckB x6 59049 (letB (pA σ (q0 + 3) x6.toNatClampNeg (vp_nar .byte (((gA σ (q0 + 3) x6.toNatClampNeg) ||| ((1 <<< ((a1 + 1) &&& 31)).toInt8.toInt32)).toInt8.toInt32))) (fun σ9 => letB (a5 + 1) (fun x10 => some (.inr (1, x10, σ9))))))))))
def xX3_leadsOn_39 (q0 : Nat) (a1 : Int32) (a2 : Int32) (a4 : Int32)  (ex : Int32 × St) : Option ((Int32 × St) ⊕ (Int32 × Int32 × St)) := letB (a4 + 1) (fun x1 => some (.inr (ex.1, x1, ex.2)))
def fX3_leadsOn_39 (q0 : Nat) (a1 : Int32) (a2 : Int32) (a3 : Int32) (a4 : Int32) (a5 : Int32) (σ : St) : Option ((Int32 × St) ⊕ (Int32 × Int32 × St)) := bn1 (iter (fun v : Int32 × Int32 × St => bX3_leadsOn_39 q0 a1 a2 v.1 a4 v.2.1 v.2.2) FU (a3, a5, σ)) (fun ex => xX3_leadsOn_39 q0 a1 a2 a4 ex)
def bX3_leadsOn_5 (q0 : Nat) (a1 : Int32) (a2 : Int32) (a3 : Int32) (a4 : Int32) (σ : St) : Option ((Int32 × St) ⊕ (Int32 × Int32 × St)) := if 59049 ≤ a4 then some (.inl (a3, σ)) else bn1 (fX3_is_cq3 q0 a4 a1 (σ)) (fun r2 => if r2 = 0 then letB (a4 + 1) (fun x6 => some (.inr (a3, x6, σ))) else bn1 (fX3_leads q0 a4 a2 (σ)) (fun σ5 => fX3_leadsOn_39 q0 a1 a2 a3 a4 0 (σ5)))
def xX3_leadsOn_5 (q0 : Nat) (a1 : Int32) (a2 : Int32)  (ex : Int32 × St) : Option (Int32 × St) := ckZ ex.1 (some (ex.1, ex.2))
def fX3_leadsOn_5 (q0 : Nat) (a1 : Int32) (a2 : Int32) (a3 : Int32) (a4 : Int32) (σ : St) : Option (Int32 × St) := bn1 (iter (fun v : Int32 × Int32 × St => bX3_leadsOn_5 q0 a1 a2 v.1 v.2.1 v.2.2) FU (a3, a4, σ)) (fun ex => xX3_leadsOn_5 q0 a1 a2 ex)
def fX3_leadsOn (q0 : Nat) (a1 : Int32) (a2 : Int32) (σ : St) : Option (Int32 × St) := fX3_leadsOn_5 q0 a1 a2 0 0 (σ)
-- X3_chooses
def bX3_chooses_43 (q0 : Nat) (a2 : Int32) (a3 : Int32) (a4 : Int32) (σ : St) : Option ((St) ⊕ (Int32 × Int32 × St)) := if (gI σ q0 10) ≤ a4 then some (.inl (σ)) else if a3 = 0 then bn2 (fX3_leadsOn q0 a2 a4 (σ)) (fun r3 σ4 => ckB a2 6 (letB (pA σ4 (q0 + 9) a2.toNatClampNeg a4) (fun σ6 => letB (a4 + 1) (fun x7 => some (.inr (r3, x7, σ6)))))) else some (.inl (σ))
def xX3_chooses_43 (q0 : Nat) (a2 : Int32)  (ex : St) : Option ((St) ⊕ (Int32 × St)) := letB (a2 + 1) (fun x1 => some (.inr (x1, ex)))
def fX3_chooses_43 (q0 : Nat) (a2 : Int32) (a3 : Int32) (a4 : Int32) (σ : St) : Option ((St) ⊕ (Int32 × St)) := bn1 (iter (fun v : Int32 × Int32 × St => bX3_chooses_43 q0 a2 v.1 v.2.1 v.2.2) FU (a3, a4, σ)) (fun ex => xX3_chooses_43 q0 a2 ex)
def bX3_chooses_30 (q0 : Nat) (a2 : Int32) (σ : St) : Option ((St) ⊕ (Int32 × St)) := if (gI σ q0 15) ≤ a2 then some (.inl (σ)) else fX3_chooses_43 q0 a2 0 0 (σ)
def xX3_chooses_30 (q0 : Nat)  (ex : St) : Option (St) := some ex
def fX3_chooses_30 (q0 : Nat) (a2 : Int32) (σ : St) : Option (St) := bn1 (iter (fun v : Int32 × St => bX3_chooses_30 q0 v.1 v.2) FU (a2, σ)) (fun ex => xX3_chooses_30 q0 ex)
def fX3_chooses_21 (q0 : Nat) (a1 : Int32) (σ : St) : Option (St) := ckB a1 59049 (letB (pA σ (q0 + 3) a1.toNatClampNeg (vp_nar .byte 1)) (fun σ2 => fX3_chooses_30 q0 0 (σ2)))
def bX3_chooses_2 (q0 : Nat) (a1 : Int32) (a2 : Int32) (σ : St) : Option ((St) ⊕ (Int32 × St)) := if 59049 ≤ a2 then some (.inl (σ)) else ckB a2 59049 (letB (pA σ (q0 + 3) a2.toNatClampNeg (vp_nar .byte 0)) (fun σ3 => letB (a2 + 1) (fun x4 => some (.inr (x4, σ3)))))
def xX3_chooses_2 (q0 : Nat) (a1 : Int32)  (ex : St) : Option (St) := fX3_chooses_21 q0 a1 (ex)
def fX3_chooses_2 (q0 : Nat) (a1 : Int32) (a2 : Int32) (σ : St) : Option (St) := bn1 (iter (fun v : Int32 × St => bX3_chooses_2 q0 a1 v.1 v.2) FU (a2, σ)) (fun ex => xX3_chooses_2 q0 a1 ex)
def fX3_chooses (q0 : Nat) (a1 : Int32) (σ : St) : Option (St) := fX3_chooses_2 q0 a1 0 (σ)
-- X3_walks
def bX3_walks_52 (q0 : Nat) (a1 : Int32) (a3 : Int32) (a4 : Int32) (σ : St) : Option ((St) ⊕ (Int32 × St)) := if 59049 ≤ a4 then some (.inl (σ)) else bn1 (fX3_is_cq3 q0 a4 a3 (σ)) (fun r2 => if r2 = 0 then letB (a4 + 1) (fun x4 => some (.inr (x4, σ))) else ckB a3 6 (bn2 (fX3_leadsTo_cq2 q0 a4 (gA σ (q0 + 9) a3.toNatClampNeg) (a3 + 1) (σ)) (fun r6 σ7 => if r6 = 0 then letB (a4 + 1) (fun x9 => some (.inr (x9, σ7))) else ckB a4 59049 (ckB a4 59049 (letB (pA σ7 (q0 + 2) a4.toNatClampNeg (vp_nar .byte (((gA σ7 (q0 + 2) a4.toNatClampNeg) ||| ((1 <<< (a3 &&& 31)).toInt8.toInt32)).toInt8.toInt32))) (fun σ12 => letB (a4 + 1) (fun x13 => some (.inr (x13, σ12)))))))))
def xX3_walks_52 (q0 : Nat) (a1 : Int32) (a3 : Int32)  (ex : St) : Option ((St) ⊕ (Int32 × St)) := letB (a3 + (-1)) (fun x1 => some (.inr (x1, ex)))
def fX3_walks_52 (q0 : Nat) (a1 : Int32) (a3 : Int32) (a4 : Int32) (σ : St) : Option ((St) ⊕ (Int32 × St)) := bn1 (iter (fun v : Int32 × St => bX3_walks_52 q0 a1 a3 v.1 v.2) FU (a4, σ)) (fun ex => xX3_walks_52 q0 a1 a3 ex)
def fX3_walks_212 (q0 : Nat) (a3 : Int32) (a4 : Int32) (σ : St) : Option ((St) ⊕ (Int32 × St)) := ckB (a3 + 1) 7 (letB (pA σ (q0 + 10) (a3 + 1).toNatClampNeg a4) (fun σ2 => letB (a3 + 1) (fun x3 => some (.inr (x3, σ2)))))
def bX3_walks_162 (q0 : Nat) (a3 : Int32) (a4 : Int32) (a5 : Int32) (σ : St) : Option ((Int32) ⊕ (Int32 × Int32)) := if (gI σ q0 12) ≤ a5 then some (.inl a4) else ckB a5 59049 (bn1 (fX3_is_cq2 q0 (gA σ (q0 + 5) a5.toNatClampNeg) (a3 + 1) (σ)) (fun r3 => if r3 = 0 then letB (a5 + 1) (fun x5 => some (.inr (a4, x5))) else ckB a5 59049 (letB (if (gA σ (q0 + 5) a5.toNatClampNeg) < a4 then (gA σ (q0 + 5) a5.toNatClampNeg) else a4) (fun x7 => letB (a5 + 1) (fun x8 => some (.inr (x7, x8)))))))
def xX3_walks_162 (q0 : Nat) (a3 : Int32) (σ : St) (ex : Int32) : Option ((St) ⊕ (Int32 × St)) := fX3_walks_212 q0 a3 ex (σ)
def fX3_walks_162 (q0 : Nat) (a3 : Int32) (a4 : Int32) (a5 : Int32) (σ : St) : Option ((St) ⊕ (Int32 × St)) := bn1 (iter (fun v : Int32 × Int32 => bX3_walks_162 q0 a3 v.1 v.2 σ) FU (a4, a5)) (fun ex => xX3_walks_162 q0 a3 σ ex)
def bX3_walks_131 (q0 : Nat) (a3 : Int32) (σ : St) : Option ((St) ⊕ (Int32 × St)) := if (gI σ q0 15) ≤ a3 then some (.inl (σ)) else ckB a3 7 (ckB a3 6 (bn1 (fX3_leads q0 (gA σ (q0 + 10) a3.toNatClampNeg) (gA σ (q0 + 9) a3.toNatClampNeg) (σ)) (fun σ5 => fX3_walks_162 q0 a3 1000000 0 (σ5))))
def xX3_walks_131 (q0 : Nat)  (ex : St) : Option (St) := some ex
def fX3_walks_131 (q0 : Nat) (a3 : Int32) (σ : St) : Option (St) := bn1 (iter (fun v : Int32 × St => bX3_walks_131 q0 v.1 v.2) FU (a3, σ)) (fun ex => xX3_walks_131 q0 ex)
def fX3_walks_122 (q0 : Nat) (a1 : Int32) (σ : St) : Option (St) := ckB 0 7 (letB (pA σ (q0 + 10) (0 : Int32).toNatClampNeg a1) (fun σ2 => fX3_walks_131 q0 0 (σ2)))
def bX3_walks_45 (q0 : Nat) (a1 : Int32) (a3 : Int32) (σ : St) : Option ((St) ⊕ (Int32 × St)) := if a3 < 0 then some (.inl (σ)) else fX3_walks_52 q0 a1 a3 0 (σ)
def xX3_walks_45 (q0 : Nat) (a1 : Int32)  (ex : St) : Option (St) := fX3_walks_122 q0 a1 (ex)
def fX3_walks_45 (q0 : Nat) (a1 : Int32) (a3 : Int32) (σ : St) : Option (St) := bn1 (iter (fun v : Int32 × St => bX3_walks_45 q0 a1 v.1 v.2) FU (a3, σ)) (fun ex => xX3_walks_45 q0 a1 ex)
def fX3_walks_21 (q0 : Nat) (a1 : Int32) (a2 : Int32) (σ : St) : Option (St) := ckB a2 59049 (ckB a2 59049 (letB (pA σ (q0 + 2) a2.toNatClampNeg (vp_nar .byte (((gA σ (q0 + 2) a2.toNatClampNeg) ||| ((1 <<< ((gI σ q0 15) &&& 31)).toInt8.toInt32)).toInt8.toInt32))) (fun σ3 => letB ((gI σ3 q0 15) - 1) (fun x4 => fX3_walks_45 q0 a1 x4 (σ3)))))
def bX3_walks_2 (q0 : Nat) (a1 : Int32) (a2 : Int32) (a3 : Int32) (σ : St) : Option ((St) ⊕ (Int32 × St)) := if 59049 ≤ a3 then some (.inl (σ)) else ckB a3 59049 (letB (pA σ (q0 + 2) a3.toNatClampNeg (vp_nar .byte 0)) (fun σ3 => letB (a3 + 1) (fun x4 => some (.inr (x4, σ3)))))
def xX3_walks_2 (q0 : Nat) (a1 : Int32) (a2 : Int32)  (ex : St) : Option (St) := fX3_walks_21 q0 a1 a2 (ex)
def fX3_walks_2 (q0 : Nat) (a1 : Int32) (a2 : Int32) (a3 : Int32) (σ : St) : Option (St) := bn1 (iter (fun v : Int32 × St => bX3_walks_2 q0 a1 a2 v.1 v.2) FU (a3, σ)) (fun ex => xX3_walks_2 q0 a1 a2 ex)
def fX3_walks (q0 : Nat) (a1 : Int32) (a2 : Int32) (σ : St) : Option (St) := fX3_walks_2 q0 a1 a2 0 (σ)
-- X3_looks
def fX3_looks (q0 : Nat) (σ : St) : Option (St) := if (gI σ q0 14) = (gI σ 0 7) then some σ else letB (pI σ q0 14 (gI σ 0 7)) (fun σ2 => bn2 (fX3_fewest_c3 q0 0 (σ2)) (fun r3 σ4 => letB (pI σ4 q0 15 r3) (fun σ5 => if 1 ≤ (gI σ5 q0 15) then bn1 (fX3_rowOf_c3 q0 (σ5)) (fun r7 => bn1 (fX3_rowOf_c4 q0 (σ5)) (fun r8 => bn1 (fX3_marks q0 r8 (σ5)) (fun σ10 => bn1 (fX3_chooses q0 r7 (σ10)) (fun σ12 => bn1 (fX3_walks q0 r7 r8 (σ12)) (fun σ14 => some σ14))))) else some σ5)))
-- X0_heats
def fX0_heats (σ : St) : Option (Int32 × St) := bn1 (fX3_looks 24 (σ)) (fun σ2 => some (gI σ2 24 15, σ2))
-- X0_plan
def fX0_plan_39 (a1 : Int32) (a2 : Int32) (σ : St) : Option (Int32 × St) := if a2 = (-1) then ckB a1 6 (some (gA σ 33 a1.toNatClampNeg, σ)) else ckB (a1 + 1) 7 (bn1 (fX3_ironAt 24 (gA σ 34 (a1 + 1).toNatClampNeg) a2 (σ)) (fun r3 => some (r3, σ)))
def fX0_plan (a1 : Int32) (a2 : Int32) (σ : St) : Option (Int32 × St) := bn1 (fX3_looks 24 (σ)) (fun σ2 => bn1 (fX0_in a1 0 ((gI σ2 24 15) - 1)) (fun r3 => if r3 = 0 then some ((-1), σ2) else if a2 = (-1) then fX0_plan_39 a1 a2 (σ2) else bn1 (fX0_isCell a2 (σ2)) (fun r6 => if r6 = 0 then some ((-1), σ2) else fX0_plan_39 a1 a2 (σ2))))
-- X0_reached
def fX0_reached_76 (a1 : Int32) (σ : St) : Option (Int32 × St) := ckB a1 7 (some (gA σ 43 a1.toNatClampNeg, σ))
def fX0_reached_31 (a1 : Int32) (σ : St) : Option (Int32 × St) := bn1 (fX3_begins 35 0 (σ)) (fun σ2 => bn1 (fX3_rowOf_c3 35 (σ2)) (fun r3 => bn2 (fX3_lays 35 r3 (-1) a1 (σ2)) (fun r4 σ5 => letB (pI σ5 0 14 (gI σ5 0 7)) (fun σ6 => letB (pI σ6 0 15 a1) (fun σ7 => fX0_reached_76 a1 (σ7))))))
def fX0_reached (a1 : Int32) (σ : St) : Option (Int32 × St) := bn1 (fX0_in a1 0 6) (fun r1 => if r1 = 0 then some ((-1), σ) else if (gI σ 0 14) = (gI σ 0 7) then if a1 ≤ (gI σ 0 15) then fX0_reached_76 a1 (σ) else fX0_reached_31 a1 (σ) else fX0_reached_31 a1 (σ))
-- X3_totalOf_c46
def bX3_totalOf_c46_4 (q0 : Nat) (a2 : Int32) (a3 : Int32) (σ : St) : Option ((Int32) ⊕ (Int32 × Int32)) := if (gI σ q0 10) ≤ a3 then some (.inl a2) else ckB a3 5 (letB (a2 + (gA σ 46 a3.toNatClampNeg)) (fun x3 => letB (a3 + 1) (fun x4 => some (.inr (x3, x4)))))
def xX3_totalOf_c46_4 (q0 : Nat) (σ : St) (ex : Int32) : Option (Int32) := some ex
def fX3_totalOf_c46_4 (q0 : Nat) (a2 : Int32) (a3 : Int32) (σ : St) : Option (Int32) := bn1 (iter (fun v : Int32 × Int32 => bX3_totalOf_c46_4 q0 v.1 v.2 σ) FU (a2, a3)) (fun ex => xX3_totalOf_c46_4 q0 σ ex)
def fX3_totalOf_c46 (q0 : Nat) (σ : St) : Option (Int32) := fX3_totalOf_c46_4 q0 0 0 (σ)
-- X3_rowOf_c46
def bX3_rowOf_c46_4 (q0 : Nat) (a2 : Int32) (a3 : Int32) (σ : St) : Option ((Int32) ⊕ (Int32 × Int32)) := if (gI σ q0 10) ≤ a3 then some (.inl a2) else ckB a3 5 (letB (((9 * a2) + (gA σ 46 a3.toNatClampNeg)) - 1) (fun x3 => letB (a3 + 1) (fun x4 => some (.inr (x3, x4)))))
def xX3_rowOf_c46_4 (q0 : Nat) (σ : St) (ex : Int32) : Option (Int32) := some ex
def fX3_rowOf_c46_4 (q0 : Nat) (a2 : Int32) (a3 : Int32) (σ : St) : Option (Int32) := bn1 (iter (fun v : Int32 × Int32 => bX3_rowOf_c46_4 q0 v.1 v.2 σ) FU (a2, a3)) (fun ex => xX3_rowOf_c46_4 q0 σ ex)
def fX3_rowOf_c46 (q0 : Nat) (σ : St) : Option (Int32) := fX3_rowOf_c46_4 q0 0 0 (σ)
-- X3_fewest_c46
def fX3_fewest_c46 (q0 : Nat) (a2 : Int32) (σ : St) : Option (Int32 × St) := bn1 (fX3_begins q0 a2 (σ)) (fun σ2 => bn1 (fX3_totalOf_c46 q0 (σ2)) (fun r3 => bn1 (fX3_totalOf_c4 q0 (σ2)) (fun r4 => letB (r3 - r4) (fun x5 => bn1 (fX0_in x5 0 6) (fun r6 => if r6 = 0 then some ((-1), σ2) else bn1 (fX3_rowOf_c46 q0 (σ2)) (fun r8 => bn1 (fX3_rowOf_c4 q0 (σ2)) (fun r9 => bn2 (fX3_lays q0 r8 r9 6 (σ2)) (fun r10 σ11 => some (r10, σ11)))))))))
-- X0_even
def fX0_even_33 (a1 : Int32) (σ : St) : Option (((Int32 × St) ⊕ (St)) ⊕ (Int32 × St)) := bn2 (fX3_fewest_c46 35 0 (σ)) (fun r1 σ2 => if r1 = (-1) then letB (a1 + 1) (fun x4 => some (.inr (x4, σ2))) else some (.inl (.inl (a1, σ2))))
def bX0_even_15 (a1 : Int32) (a2 : Int32) (σ : St) : Option ((St) ⊕ (Int32 × St)) := if 5 ≤ a2 then some (.inl (σ)) else ckB a2 5 (letB (pA σ 46 a2.toNatClampNeg a1) (fun σ3 => letB (a2 + 1) (fun x4 => some (.inr (x4, σ3)))))
def xX0_even_15 (a1 : Int32)  (ex : St) : Option (((Int32 × St) ⊕ (St)) ⊕ (Int32 × St)) := fX0_even_33 a1 (ex)
def fX0_even_15 (a1 : Int32) (a2 : Int32) (σ : St) : Option (((Int32 × St) ⊕ (St)) ⊕ (Int32 × St)) := bn1 (iter (fun v : Int32 × St => bX0_even_15 a1 v.1 v.2) FU (a2, σ)) (fun ex => xX0_even_15 a1 ex)
def bX0_even_7 (a1 : Int32) (σ : St) : Option (((Int32 × St) ⊕ (St)) ⊕ (Int32 × St)) := if 9 < a1 then some (.inl (.inr (σ))) else fX0_even_15 a1 0 (σ)
def xX0_even_7   (ex : (Int32 × St) ⊕ (St)) : Option (Int32 × St) := match ex with
  | (.inl (b1, σ')) => some (b1, σ')
  | (.inr (σ')) => some ((-1), σ')
def fX0_even_7 (a1 : Int32) (σ : St) : Option (Int32 × St) := bn1 (iter (fun v : Int32 × St => bX0_even_7 v.1 v.2) FU (a1, σ)) (fun ex => xX0_even_7 ex)
def fX0_even (σ : St) : Option (Int32 × St) := letB (pI σ 0 14 (-1)) (fun σ1 => fX0_even_7 1 (σ1))
-- X0_striker
def fX0_striker (σ : St) : Option (Int32 × St) := bn1 (fX3_looks 24 (σ)) (fun σ2 => letB (pI σ2 0 14 (-1)) (fun σ3 => bn2 (fX3_fewest_c3 35 1 (σ3)) (fun r4 σ5 => if (gI σ5 24 15) = (-1) then some ((-1), σ5) else if r4 = (-1) then some ((-1), σ5) else some ((gI σ5 24 15) - r4, σ5))))
-- X0_apart
def bX0_apart_5 (a1 : Int32) (a2 : Int32) (a3 : Int32) (a4 : Int32) (σ : St) : Option ((Int32) ⊕ (Int32 × Int32)) := if (gI σ 2 5) ≤ a4 then some (.inl a3) else ckB ((5 * a1) + a4) 60 (ckB ((5 * a2) + a4) 60 (letB (a3 + (if 0 ≤ ((gA σ 47 ((5 * a1) + a4).toNatClampNeg) - (gA σ 47 ((5 * a2) + a4).toNatClampNeg)) then ((gA σ 47 ((5 * a1) + a4).toNatClampNeg) - (gA σ 47 ((5 * a2) + a4).toNatClampNeg)) else 0 - ((gA σ 47 ((5 * a1) + a4).toNatClampNeg) - (gA σ 47 ((5 * a2) + a4).toNatClampNeg)))) (fun x4 => letB (a4 + 1) (fun x5 => some (.inr (x4, x5))))))
def xX0_apart_5 (a1 : Int32) (a2 : Int32) (σ : St) (ex : Int32) : Option (Int32) := some ex
def fX0_apart_5 (a1 : Int32) (a2 : Int32) (a3 : Int32) (a4 : Int32) (σ : St) : Option (Int32) := bn1 (iter (fun v : Int32 × Int32 => bX0_apart_5 a1 a2 v.1 v.2 σ) FU (a3, a4)) (fun ex => xX0_apart_5 a1 a2 σ ex)
def fX0_apart (a1 : Int32) (a2 : Int32) (σ : St) : Option (Int32) := fX0_apart_5 a1 a2 0 0 (σ)
-- X0_status
def fX0_status (σ : St) : Option (Int32) := some (gI σ 0 0)
-- X2_isHot
def fX2_isHot (q0 : Nat) (a1 : Int32) (σ : St) : Option (Int32) := bn1 (fX2_isCell q0 a1 (σ)) (fun r1 => if r1 = 0 then some 0 else if (((gI σ q0 7) >>> (a1 &&& 31)) &&& 1) = 1 then some 1 else some 0)
-- X2_ironOf
def fX2_ironOf (q0 : Nat) (a1 : Int32) (σ : St) : Option (Int32) := bn1 (fX2_isCell q0 a1 (σ)) (fun r1 => if r1 = 0 then some 0 else ckB a1 5 (some (gA σ (q0 + 1) a1.toNatClampNeg)))
-- X2_scales
def fX2_scales (q0 : Nat) (a1 : Int32) (σ : St) : Option (St) := ckB a1 5 (if (gA σ (q0 + 1) a1.toNatClampNeg) = 1 then some σ else ckB a1 5 (ckB a1 5 (letB (pA σ (q0 + 1) a1.toNatClampNeg ((gA σ (q0 + 1) a1.toNatClampNeg) - 1)) (fun σ5 => letB (pI σ5 q0 14 ((gI σ5 q0 14) + 1)) (fun σ6 => some σ6)))))
-- X2_fires
def fX2_fires_81 (q0 : Nat) (a1 : Int32) (a2 : Int32) (a4 : Int32) (σ : St) : Option ((Int32) ⊕ (Int32 × Int32)) := letB (a4 + 1) (fun x1 => some (.inr (1, x1)))
def fX2_fires_93 (q0 : Nat) (a1 : Int32) (a2 : Int32) (a3 : Int32) (σ : St) : Option (Int32 × St) := if a3 = 0 then some (0, σ) else letB (pI σ q0 7 a2) (fun σ2 => letB (pI σ2 q0 20 a1) (fun σ3 => letB (pI σ3 q0 8 (gI σ3 q0 5)) (fun σ4 => letB (pI σ4 q0 9 ((gI σ4 q0 9) + 1)) (fun σ5 => bn1 (fX2_scales q0 a1 (σ5)) (fun σ7 => some (1, σ7))))))
def bX2_fires_41 (q0 : Nat) (a1 : Int32) (a2 : Int32) (a3 : Int32) (a4 : Int32) (σ : St) : Option ((Int32) ⊕ (Int32 × Int32)) := if (gI σ q0 3) ≤ a4 then some (.inl a3) else if a3 = 0 then if ((a2 >>> (a4 &&& 31)) &&& 1) = 0 then ckB a4 5 (if (((gI σ q0 4) >>> ((gA σ (q0 + 1) a4.toNatClampNeg) &&& 31)) &&& 1) = 1 then fX2_fires_81 q0 a1 a2 a4 (σ) else letB (a4 + 1) (fun x7 => some (.inr (0, x7)))) else letB (a4 + 1) (fun x4 => some (.inr (0, x4))) else fX2_fires_81 q0 a1 a2 a4 (σ)
def xX2_fires_41 (q0 : Nat) (a1 : Int32) (a2 : Int32) (σ : St) (ex : Int32) : Option (Int32 × St) := fX2_fires_93 q0 a1 a2 ex (σ)
def fX2_fires_41 (q0 : Nat) (a1 : Int32) (a2 : Int32) (a3 : Int32) (a4 : Int32) (σ : St) : Option (Int32 × St) := bn1 (iter (fun v : Int32 × Int32 => bX2_fires_41 q0 a1 a2 v.1 v.2 σ) FU (a3, a4)) (fun ex => xX2_fires_41 q0 a1 a2 σ ex)
def fX2_fires (q0 : Nat) (a1 : Int32) (σ : St) : Option (Int32 × St) := bn1 (fX2_isCell q0 a1 (σ)) (fun r1 => if r1 = 0 then letB (pI σ q0 12 ((gI σ q0 12) + 1)) (fun σ4 => some (1, σ4)) else letB (((7 <<< (a1 &&& 31)) >>> (1 &&& 31)) &&& ((1 <<< ((gI σ q0 3) &&& 31)) - 1)) (fun x3 => fX2_fires_41 q0 a1 x3 0 0 (σ)))
-- X2_cools
def fX2_cools (q0 : Nat) (a1 : Int32) (σ : St) : Option (St) := letB (pI σ q0 13 ((gI σ q0 13) + 1)) (fun σ1 => letB (pI σ1 q0 19 ((gI σ1 q0 19) ||| (1 <<< (a1 &&& 31)))) (fun σ2 => some σ2))
-- X2_uses
def fX2_uses (q0 : Nat) (a1 : Int32) (a2 : Int32) (σ : St) : Option (Int32 × St) := if (gI σ q0 8) = 0 then bn1 (fX2_cools q0 a1 (σ)) (fun σ3 => some (0, σ3)) else if a2 = 0 then bn1 (fX2_cools q0 a1 (σ)) (fun σ8 => some (0, σ8)) else letB (pI σ q0 8 ((gI σ q0 8) - 1)) (fun σ5 => letB (pI σ5 q0 10 ((gI σ5 q0 10) + 1)) (fun σ6 => some (1, σ6)))
-- X4_slips
def fX4_slips (σ : St) : Option (Int32 × St) := letB (pI σ 48 1 ((((((gI σ 48 1).toInt64) * 1103) + 12345) - (((((gI σ 48 1).toInt64) * 1103) + 12345) / 1000003) * 1000003).toInt32)) (fun σ1 => if (gI σ1 48 0) ≤ ((gI σ1 48 1) - ((gI σ1 48 1) / 100) * 100) then some (0, σ1) else some (1, σ1))
-- X2_strikes
def fX2_strikes_26 (q0 : Nat) (σ : St) : Option (St) := letB (pI σ q0 12 ((gI σ q0 12) + 1)) (fun σ1 => some σ1)
def fX2_strikes_130 (q0 : Nat) (σ : St) : Option (St) := letB (pI σ q0 12 ((gI σ q0 12) + 1)) (fun σ1 => some σ1)
def fX2_strikes_141 (q0 : Nat) (a1 : Int32) (a2 : Int32) (σ : St) : Option (St) := letB (pI σ q0 11 ((gI σ q0 11) + 1)) (fun σ1 => ckB a1 5 (ckB a1 5 (letB (pA σ1 (q0 + 1) a1.toNatClampNeg ((gA σ1 (q0 + 1) a1.toNatClampNeg) - 1)) (fun σ4 => ckB a2 5 (ckB a2 5 (letB (pA σ4 (q0 + 1) a2.toNatClampNeg ((gA σ4 (q0 + 1) a2.toNatClampNeg) + 1)) (fun σ7 => ckB a2 5 (ckB a1 5 (if (gA σ7 (q0 + 1) a2.toNatClampNeg) ≤ (2 * (gA σ7 (q0 + 1) a1.toNatClampNeg)) then some σ7 else letB (pI σ7 q0 18 ((gI σ7 q0 18) ||| (1 <<< (a2 &&& 31)))) (fun σ11 => some σ11))))))))))
def fX2_strikes_108 (q0 : Nat) (a1 : Int32) (a2 : Int32) (t0 : Int32) (σ : St) : Option (St) := if t0 = 0 then fX2_strikes_130 q0 (σ) else ckH (gR σ q0 22) (fX2_strikes_141 q0 a1 a2 (σ)) (ckH (gR σ q0 22) (none) (bn2 (fX4_slips (σ)) (fun r2 σ3 => if r2 = 0 then fX2_strikes_141 q0 a1 a2 (σ3) else fX2_strikes_130 q0 (σ3))))
def fX2_strikes_107 (q0 : Nat) (a1 : Int32) (a2 : Int32) (σ : St) : Option (St) := fX2_strikes_108 q0 a1 a2 0 (σ)
def fX2_strikes_60 (q0 : Nat) (a1 : Int32) (a2 : Int32) (t1 : Int32) (t2 : Int32) (σ : St) : Option (St) := bn2 (fX2_uses q0 t1 t2 (σ)) (fun r1 σ2 => if r1 = 0 then some σ2 else ckB a1 5 (if (gA σ2 (q0 + 1) a1.toNatClampNeg) ≤ 1 then fX2_strikes_107 q0 a1 a2 (σ2) else ckB a2 5 (if 9 ≤ (gA σ2 (q0 + 1) a2.toNatClampNeg) then fX2_strikes_107 q0 a1 a2 (σ2) else if (((gI σ2 q0 15) >>> ((if a2 < a1 then a2 else a1) &&& 31)) &&& 1) = 0 then fX2_strikes_108 q0 a1 a2 1 (σ2) else fX2_strikes_107 q0 a1 a2 (σ2))))
def fX2_strikes_55 (q0 : Nat) (a1 : Int32) (a2 : Int32) (t1 : Int32) (σ : St) : Option (St) := fX2_strikes_60 q0 a1 a2 t1 1 (σ)
def fX2_strikes (q0 : Nat) (a1 : Int32) (a2 : Int32) (σ : St) : Option (St) := bn1 (fX2_isCell q0 a1 (σ)) (fun r1 => if r1 = 0 then fX2_strikes_26 q0 (σ) else bn1 (fX2_isCell q0 a2 (σ)) (fun r3 => if r3 = 0 then fX2_strikes_26 q0 (σ) else if (if 0 ≤ (a1 - a2) then (a1 - a2) else 0 - (a1 - a2)) = 1 then bn1 (fX2_isHot q0 a1 (σ)) (fun r6 => if r6 = 0 then bn1 (fX2_isHot q0 a2 (σ)) (fun r8 => if r8 = 0 then fX2_strikes_60 q0 a1 a2 a1 0 (σ) else fX2_strikes_55 q0 a1 a2 a1 (σ)) else fX2_strikes_55 q0 a1 a2 a1 (σ)) else fX2_strikes_26 q0 (σ)))
-- X2_shoulders
def fX2_shoulders_18 (q0 : Nat) (σ : St) : Option (St) := letB (pI σ q0 12 ((gI σ q0 12) + 1)) (fun σ1 => some σ1)
def fX2_shoulders (q0 : Nat) (a1 : Int32) (σ : St) : Option (St) := bn1 (fX2_isCell q0 a1 (σ)) (fun r1 => if r1 = 0 then fX2_shoulders_18 q0 (σ) else bn1 (fX2_isCell q0 (a1 + 1) (σ)) (fun r3 => if r3 = 0 then fX2_shoulders_18 q0 (σ) else bn1 (fX2_isHot q0 a1 (σ)) (fun r5 => bn2 (fX2_uses q0 a1 r5 (σ)) (fun r6 σ7 => if r6 = 0 then some σ7 else letB (pI σ7 q0 15 ((gI σ7 q0 15) ||| (1 <<< (a1 &&& 31)))) (fun σ9 => some σ9)))))
-- X2_punches
def fX2_punches (q0 : Nat) (a1 : Int32) (σ : St) : Option (St) := bn1 (fX2_isCell q0 a1 (σ)) (fun r1 => if r1 = 0 then letB (pI σ q0 12 ((gI σ q0 12) + 1)) (fun σ15 => some σ15) else bn1 (fX2_isHot q0 a1 (σ)) (fun r3 => bn2 (fX2_uses q0 a1 r3 (σ)) (fun r4 σ5 => if r4 = 0 then some σ5 else ckB a1 5 (ckB a1 5 (letB (pA σ5 (q0 + 2) a1.toNatClampNeg ((gA σ5 (q0 + 2) a1.toNatClampNeg) + 1)) (fun σ9 => ckB a1 5 (if (gA σ9 (q0 + 2) a1.toNatClampNeg) = 2 then letB (pI σ9 q0 16 ((gI σ9 q0 16) ||| (1 <<< (a1 &&& 31)))) (fun σ12 => bn1 (fX2_scales q0 a1 (σ12)) (fun σ14 => some σ14)) else some σ9)))))))
-- X2_welds
def fX2_welds_18 (q0 : Nat) (σ : St) : Option (St) := letB (pI σ q0 12 ((gI σ q0 12) + 1)) (fun σ1 => some σ1)
def fX2_welds_72 (q0 : Nat) (a1 : Int32) (t1 : Int32) (t2 : Int32) (σ : St) : Option (St) := bn2 (fX2_uses q0 t1 t2 (σ)) (fun r1 σ2 => if r1 = 0 then some σ2 else letB (pI σ2 q0 17 ((gI σ2 q0 17) ||| (1 <<< (a1 &&& 31)))) (fun σ4 => ckB a1 5 (letB (pA σ4 (q0 + 3) a1.toNatClampNeg (if ((30 + (10 * (gI σ4 q0 8))) + (gI σ4 q0 6)) < 100 then ((30 + (10 * (gI σ4 q0 8))) + (gI σ4 q0 6)) else 100)) (fun σ6 => some σ6))))
def fX2_welds_71 (q0 : Nat) (a1 : Int32) (t1 : Int32) (σ : St) : Option (St) := fX2_welds_72 q0 a1 t1 0 (σ)
def fX2_welds_67 (q0 : Nat) (a1 : Int32) (t1 : Int32) (σ : St) : Option (St) := fX2_welds_72 q0 a1 t1 1 (σ)
def fX2_welds (q0 : Nat) (a1 : Int32) (σ : St) : Option (St) := bn1 (fX2_isCell q0 a1 (σ)) (fun r1 => if r1 = 0 then fX2_welds_18 q0 (σ) else bn1 (fX2_isCell q0 (a1 + 1) (σ)) (fun r3 => if r3 = 0 then fX2_welds_18 q0 (σ) else bn1 (fX2_isHot q0 a1 (σ)) (fun r5 => if r5 = 0 then fX2_welds_71 q0 a1 a1 (σ) else bn1 (fX2_isHot q0 (a1 + 1) (σ)) (fun r7 => if r7 = 0 then fX2_welds_71 q0 a1 a1 (σ) else if (gI σ q0 20) = a1 then fX2_welds_67 q0 a1 a1 (σ) else if (gI σ q0 20) = (a1 + 1) then fX2_welds_67 q0 a1 a1 (σ) else fX2_welds_71 q0 a1 a1 (σ)))))
-- X2_row
def bX2_row_4 (q0 : Nat) (a1 : Int32) (a2 : Int32) (σ : St) : Option ((Int32) ⊕ (Int32 × Int32)) := if (gI σ q0 3) ≤ a2 then some (.inl a1) else ckB a2 5 (letB (((9 * a1) + (gA σ (q0 + 1) a2.toNatClampNeg)) - 1) (fun x3 => letB (a2 + 1) (fun x4 => some (.inr (x3, x4)))))
def xX2_row_4 (q0 : Nat) (σ : St) (ex : Int32) : Option (Int32) := some ex
def fX2_row_4 (q0 : Nat) (a1 : Int32) (a2 : Int32) (σ : St) : Option (Int32) := bn1 (iter (fun v : Int32 × Int32 => bX2_row_4 q0 v.1 v.2 σ) FU (a1, a2)) (fun ex => xX2_row_4 q0 σ ex)
def fX2_row (q0 : Nat) (σ : St) : Option (Int32) := fX2_row_4 q0 0 0 (σ)
-- X2_begins_c3_c5
def fX2_begins_c3_c5_55 (q0 : Nat) (a2 : Int32) (a5 : Int32) (t1 : Int32) (t2 : Int32) (σ : St) : Option ((St) ⊕ (Int32 × St)) := ckB t1 5 (letB (pA σ (q0 + 1) t1.toNatClampNeg t2) (fun σ2 => ckB a5 5 (letB (pA σ2 (q0 + 2) a5.toNatClampNeg 0) (fun σ4 => ckB a5 5 (letB (pA σ4 (q0 + 3) a5.toNatClampNeg 0) (fun σ6 => letB (a5 + 1) (fun x7 => some (.inr (x7, σ6)))))))))
def fX2_begins_c3_c5_78 (q0 : Nat) (σ : St) : Option (St) := letB (pI σ q0 7 0) (fun σ1 => letB (pI σ1 q0 8 0) (fun σ2 => letB (pI σ2 q0 9 0) (fun σ3 => letB (pI σ3 q0 10 0) (fun σ4 => letB (pI σ4 q0 11 0) (fun σ5 => letB (pI σ5 q0 12 0) (fun σ6 => letB (pI σ6 q0 13 0) (fun σ7 => letB (pI σ7 q0 14 0) (fun σ8 => letB (pI σ8 q0 15 0) (fun σ9 => letB (pI σ9 q0 16 0) (fun σ10 => letB (pI σ10 q0 17 0) (fun σ11 => letB (pI σ11 q0 18 0) (fun σ12 => letB (pI σ12 q0 19 0) (fun σ13 => letB (pI σ13 q0 20 (-1)) (fun σ14 => letB (pI σ14 q0 21 (-1)) (fun σ15 => some σ15)))))))))))))))
def bX2_begins_c3_c5_29 (q0 : Nat) (a2 : Int32) (a5 : Int32) (σ : St) : Option ((St) ⊕ (Int32 × St)) := if 5 ≤ a5 then some (.inl (σ)) else if a2 ≤ a5 then fX2_begins_c3_c5_55 q0 a2 a5 a5 0 (σ) else ckB a5 5 (fX2_begins_c3_c5_55 q0 a2 a5 a5 (gA σ 3 a5.toNatClampNeg) (σ))
def xX2_begins_c3_c5_29 (q0 : Nat) (a2 : Int32)  (ex : St) : Option (St) := fX2_begins_c3_c5_78 q0 (ex)
def fX2_begins_c3_c5_29 (q0 : Nat) (a2 : Int32) (a5 : Int32) (σ : St) : Option (St) := bn1 (iter (fun v : Int32 × St => bX2_begins_c3_c5_29 q0 a2 v.1 v.2) FU (a5, σ)) (fun ex => xX2_begins_c3_c5_29 q0 a2 ex)
def fX2_begins_c3_c5 (q0 : Nat) (a2 : Int32) (a3 : Int32) (σ : St) : Option (St) := letB (pI σ q0 3 a2) (fun σ1 => letB (pI σ1 q0 4 a3) (fun σ2 => ckB 0 5 (letB (pI σ2 q0 5 (gA σ2 5 (0 : Int32).toNatClampNeg)) (fun σ4 => ckB 4 5 (letB (pI σ4 q0 6 (gA σ4 5 (4 : Int32).toNatClampNeg)) (fun σ6 => fX2_begins_c3_c5_29 q0 a2 0 (σ6)))))))
-- X2_isAs_c20
def fX2_isAs_c20 (q0 : Nat) (σ : St) : Option (Int32) := bn1 (fX2_row q0 (σ)) (fun r1 => bn1 (fX2_row 20 (σ)) (fun r2 => if r1 = r2 then if (gI σ q0 15) = (gI σ 20 15) then if (gI σ q0 16) = (gI σ 20 16) then if (gI σ q0 17) = (gI σ 20 17) then if (gI σ q0 18) = (gI σ 20 18) then if (gI σ q0 19) = (gI σ 20 19) then some 1 else some 0 else some 0 else some 0 else some 0 else some 0 else some 0))
