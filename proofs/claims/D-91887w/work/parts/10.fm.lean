/-! HotIronModel: its cells, and what its methods do, lifted (by wip/gen/gen_m.py) -/
set_option maxRecDepth 100000
def mKs : List Nat := List.range 31
theorem mKs_nd : mKs.Nodup := List.nodup_range
def mFl : List (Nat × Nat) := [(0, 0), (0, 0), (2, 1), (2, 2), (2, 3), (2, 4), (2, 5), (0, 0), (0, 0), (0, 0), (0, 0), (1, 0), (0, 0), (0, 0), (0, 0), (0, 0), (2, 6), (2, 7), (2, 8), (0, 0), (0, 0), (2, 9), (0, 0), (2, 10), (2, 11), (2, 12), (0, 0), (0, 0), (0, 0), (0, 0), (0, 0), (0, 0), (0, 0), (0, 0), (0, 0), (0, 0), (0, 0), (0, 0), (0, 0), (0, 0), (0, 0), (0, 0), (0, 0), (1, 0), (2, 13), (0, 0), (2, 14), (2, 15), (2, 16), (2, 17), (2, 18), (2, 19), (2, 20), (2, 21), (2, 22), (2, 23), (0, 0), (2, 24), (0, 0), (0, 0), (0, 0), (2, 25), (2, 26), (2, 27), (2, 28), (2, 29), (2, 30)]
def mSh : Nat → Sh := fun c => match c with
  | 0 => (0, 6, 0, mFl)
  | 1 => (1, 0, 7, [])
  | 2 => (1, 0, 8060, [])
  | 3 => (1, 0, 16120, [])
  | 4 => (1, 2, 2, [])
  | 5 => (1, 0, 400, [])
  | 6 => (1, 0, 400, [])
  | 7 => (1, 0, 400, [])
  | 8 => (1, 0, 400, [])
  | 9 => (1, 0, 160, [])
  | 10 => (1, 0, 5, [])
  | 11 => (1, 0, 5, [])
  | 12 => (1, 0, 5, [])
  | 13 => (1, 0, 400, [])
  | 14 => (1, 0, 5, [])
  | 15 => (1, 0, 12, [])
  | 16 => (1, 0, 5, [])
  | 17 => (1, 0, 60, [])
  | 18 => (1, 0, 5, [])
  | 19 => (1, 0, 59049, [])
  | 20 => (1, 0, 59049, [])
  | 21 => (1, 0, 59049, [])
  | 22 => (1, 0, 59049, [])
  | 23 => (1, 0, 59049, [])
  | 24 => (1, 0, 59049, [])
  | 25 => (1, 0, 7, [])
  | 26 => (1, 0, 7, [])
  | 27 => (1, 0, 8, [])
  | 28 => (1, 0, 8, [])
  | 29 => (1, 0, 3, [])
  | _ => (1, 0, 8, [])
section MR
variable {p : Program} {l : Launch} {e : Env} {R : Room} {s : State} {m : MethodId} {args : Array Value} {below : List Frame} {meth : Method} {c : Code} {H : Heap} {locs : List Loc} {cells slots : Nat} {Q : State → Prop}
variable {cc : ByteArray} {nL : Nat} {ad : Nat → Nat} {dc : Nat → ClassId} {D : va_G} {A : Nat → Prop} {σ : St} {pc : Nat} {ls : Array Slot} {rest : List Value}
theorem m_getI (C0 : Cx ad dc D RX6 cc nL p s m args meth c) (G : GW mSh mKs ad dc D A s σ H locs) {idx : Nat} (j : Nat) (hj : j < 67) {x : Nat} (hf : mFl[j]? = some (0, x)) (hq : Cond.fieldLink RX6 idx (TX6 j).1 (TX6 j).2.1 (TX6 j).2.2.1 ∈ lw_all) (hdg : decode cc pc = .ok (.getfield idx, 3)) (kk : W p l e R s m args below meth c H locs cells slots Q (F0 m (pc + 3) ls (.int (gI σ 0 j) :: rest))) : W p l e R s m args below meth c H locs cells slots Q (F0 m pc ls (.ref (ad 0) :: rest)) := g_getI C0 G in_X6 (ci := 6) rfl (k := 0) (by decide) (fl := mFl) rfl j hj hf hq hdg kk
theorem m_getL (C0 : Cx ad dc D RX6 cc nL p s m args meth c) (G : GW mSh mKs ad dc D A s σ H locs) {idx : Nat} (j : Nat) (hj : j < 67) {x : Nat} (hf : mFl[j]? = some (1, x)) (hq : Cond.fieldLink RX6 idx (TX6 j).1 (TX6 j).2.1 (TX6 j).2.2.1 ∈ lw_all) (hdg : decode cc pc = .ok (.getfield idx, 3)) (kk : W p l e R s m args below meth c H locs cells slots Q (F0 m (pc + 3) ls (.long (gL σ 0 j) :: rest))) : W p l e R s m args below meth c H locs cells slots Q (F0 m pc ls (.ref (ad 0) :: rest)) := g_getL C0 G in_X6 (ci := 6) rfl (k := 0) (by decide) (fl := mFl) rfl j hj hf hq hdg kk
theorem m_getC (C0 : Cx ad dc D RX6 cc nL p s m args meth c) (G : GW mSh mKs ad dc D A s σ H locs) {idx : Nat} (j : Nat) (hj : j < 67) {x : Nat} (hf : mFl[j]? = some (2, x)) (hq : Cond.fieldLink RX6 idx (TX6 j).1 (TX6 j).2.1 (TX6 j).2.2.1 ∈ lw_all) (hdg : decode cc pc = .ok (.getfield idx, 3)) (kk : W p l e R s m args below meth c H locs cells slots Q (F0 m (pc + 3) ls (.ref (ad x) :: rest))) : W p l e R s m args below meth c H locs cells slots Q (F0 m pc ls (.ref (ad 0) :: rest)) := g_getC C0 G in_X6 (ci := 6) rfl (k := 0) (by decide) (fl := mFl) rfl j hj hf hq hdg kk
theorem m_putI (C0 : Cx ad dc D RX6 cc nL p s m args meth c) (G : GW mSh mKs ad dc D A s σ H locs) {idx : Nat} (j : Nat) (hj : j < 67) {y : Nat} (hf : mFl[j]? = some (0, y)) (hq : Cond.fieldLink RX6 idx (TX6 j).1 (TX6 j).2.1 (TX6 j).2.2.1 ∈ lw_all) (hfin : (TX6 j).2.2.2 = false) (hdg : decode cc pc = .ok (.putfield idx, 3)) {x : Int32} (hn : narrow (tyX6 j) (.int x) = .int x ∧ fits (tyX6 j) (.int x) = true) (kk : ∀ σ' H1 locs1, σ' = pI σ 0 j x → GW mSh mKs ad dc D A s σ' H1 locs1 → W p l e R s m args below meth c H1 locs1 cells slots Q (F0 m (pc + 3) ls rest)) : W p l e R s m args below meth c H locs cells slots Q (F0 m pc ls (.int x :: .ref (ad 0) :: rest)) := g_putI C0 G in_X6 tyX6_ok nmX6 (ci := 6) rfl (k := 0) (by decide) (fl := mFl) rfl j hj hf hq hfin hdg hn kk
theorem m_putL (C0 : Cx ad dc D RX6 cc nL p s m args meth c) (G : GW mSh mKs ad dc D A s σ H locs) {idx : Nat} (j : Nat) (hj : j < 67) {y : Nat} (hf : mFl[j]? = some (1, y)) (hq : Cond.fieldLink RX6 idx (TX6 j).1 (TX6 j).2.1 (TX6 j).2.2.1 ∈ lw_all) (hfin : (TX6 j).2.2.2 = false) (hdg : decode cc pc = .ok (.putfield idx, 3)) {x : Int64} (hn : narrow (tyX6 j) (.long x) = .long x ∧ fits (tyX6 j) (.long x) = true) (kk : ∀ σ' H1 locs1, σ' = pL σ 0 j x → GW mSh mKs ad dc D A s σ' H1 locs1 → W p l e R s m args below meth c H1 locs1 cells slots Q (F0 m (pc + 3) ls rest)) : W p l e R s m args below meth c H locs cells slots Q (F0 m pc ls (.long x :: .ref (ad 0) :: rest)) := g_putL C0 G in_X6 tyX6_ok nmX6 (ci := 6) rfl (k := 0) (by decide) (fl := mFl) rfl j hj hf hq hfin hdg hn kk
end MR

-- cell 1: refusals
-- cell 2: row
-- cell 3: images
-- cell 4: isKept
-- cell 5: tape
-- cell 6: nOp
-- cell 7: nArg
-- cell 8: pile
-- cell 9: nStep
-- cell 10: iron
-- cell 11: punched
-- cell 12: weldWorth
-- cell 13: rest
-- cell 14: ranIron
-- cell 15: ran
-- cell 16: ranWelds
-- cell 17: kept
-- cell 18: weight
-- cell 19: level
-- cell 20: toGo
-- cell 21: onWay
-- cell 22: goal
-- cell 23: stamp
-- cell 24: spread
-- cell 25: planCell
-- cell 26: planRow
-- cell 27: order
-- cell 28: begins
-- cell 29: free
-- cell 30: best
-- field 0: thrown I
-- field 1: status I
-- field 2: refusals [I
-- field 3: row [I
-- field 4: images [I
-- field 5: isKept [Z
-- field 6: tape [I
-- field 7: taped I
-- field 8: from I
-- field 9: to I
-- field 10: sort I
-- field 11: worth J
-- field 12: fault I
-- field 13: bad Z
-- field 14: nParts I
-- field 15: nCode I
-- field 16: nOp [I
-- field 17: nArg [I
-- field 18: pile [I
-- field 19: piled I
-- field 20: opened I
-- field 21: nStep [I
-- field 22: nSteps I
-- field 23: iron [I
-- field 24: punched [I
-- field 25: weldWorth [I
-- field 26: hot I
-- field 27: left I
-- field 28: latest I
-- field 29: heated I
-- field 30: struck I
-- field 31: moves I
-- field 32: duds I
-- field 33: colds I
-- field 34: scale I
-- field 35: dropped I
-- field 36: shoulders I
-- field 37: holes I
-- field 38: welded I
-- field 39: folds I
-- field 40: cracks I
-- field 41: gone I
-- field 42: slip I
-- field 43: state J
-- field 44: rest [I
-- field 45: ranCells I
-- field 46: ranIron [I
-- field 47: ran [I
-- field 48: ranWelds [I
-- field 49: kept [I
-- field 50: weight [I
-- field 51: level [I
-- field 52: toGo [I
-- field 53: onWay [I
-- field 54: goal [I
-- field 55: stamp [I
-- field 56: stamped I
-- field 57: spread [I
-- field 58: spreadMany I
-- field 59: levels I
-- field 60: planHeats I
-- field 61: planCell [I
-- field 62: planRow [I
-- field 63: order [I
-- field 64: begins [I
-- field 65: free [I
-- field 66: best [I
-- X6_in
def fX6_in (a0 : Int64) (a2 : Int64) (a4 : Int64) : Option (Int32) := if a0 < a2 then some 0 else if a4 < a0 then some 0 else some 1
-- X6_tell
def fX6_tell_10 (a1 : Int32) (t1 : Int32) (σ : St) : Option (Int32 × St) := letB (pI σ 0 1 t1) (fun σ1 => if 0 ≤ a1 then some (a1, σ1) else letB (-a1) (fun x3 => ckB x3 7 (ckB x3 7 (letB (pA σ1 1 x3.toNatClampNeg ((gA σ1 1 x3.toNatClampNeg) + 1)) (fun σ6 => some (a1, σ6))))))
def fX6_tell (a1 : Int32) (σ : St) : Option (Int32 × St) := if 0 ≤ a1 then fX6_tell_10 a1 0 (σ) else fX6_tell_10 a1 a1 (σ)
-- X6_image
def fX6_image_54 (a1 : Int32) (σ : St) : Option (Int32 × St) := ckB a1 2 (letB (pA σ 4 a1.toNatClampNeg (vp_nar .boolean 1)) (fun σ2 => bn2 (fX6_tell 0 (σ2)) (fun r3 σ4 => some (r3, σ4))))
def bX6_image_23 (a1 : Int32) (a2 : Int32) (σ : St) : Option ((St) ⊕ (Int32 × St)) := if 8060 ≤ a2 then some (.inl (σ)) else ckB a2 8060 (ckB ((8060 * a1) + a2) 16120 (letB (pA σ 3 ((8060 * a1) + a2).toNatClampNeg (gA σ 2 a2.toNatClampNeg)) (fun σ4 => letB (a2 + 1) (fun x5 => some (.inr (x5, σ4))))))
def xX6_image_23 (a1 : Int32)  (ex : St) : Option (Int32 × St) := fX6_image_54 a1 (ex)
def fX6_image_23 (a1 : Int32) (a2 : Int32) (σ : St) : Option (Int32 × St) := bn1 (iter (fun v : Int32 × St => bX6_image_23 a1 v.1 v.2) FU (a2, σ)) (fun ex => xX6_image_23 a1 ex)
def fX6_image (a1 : Int32) (σ : St) : Option (Int32 × St) := letB (pI σ 0 0 0) (fun σ1 => bn1 (fX6_in (a1.toInt64) 0 1) (fun r2 => if r2 = 0 then bn2 (fX6_tell (-1) (σ1)) (fun r4 σ5 => some (r4, σ5)) else fX6_image_23 a1 0 (σ1)))
-- X6_forget
def fX6_forget (σ : St) : Option (St) := letB (pI σ 0 59 (-1)) (fun σ1 => letB (pI σ1 0 60 (-2)) (fun σ2 => some σ2))
-- X6_back
def fX6_back_70 (σ : St) : Option (Int32 × St) := bn1 (fX6_forget (σ)) (fun σ2 => bn2 (fX6_tell 0 (σ2)) (fun r3 σ4 => some (r3, σ4)))
def bX6_back_39 (a1 : Int32) (a2 : Int32) (σ : St) : Option ((St) ⊕ (Int32 × St)) := if 8060 ≤ a2 then some (.inl (σ)) else ckB ((8060 * a1) + a2) 16120 (ckB a2 8060 (letB (pA σ 2 a2.toNatClampNeg (gA σ 3 ((8060 * a1) + a2).toNatClampNeg)) (fun σ4 => letB (a2 + 1) (fun x5 => some (.inr (x5, σ4))))))
def xX6_back_39 (a1 : Int32)  (ex : St) : Option (Int32 × St) := fX6_back_70 (ex)
def fX6_back_39 (a1 : Int32) (a2 : Int32) (σ : St) : Option (Int32 × St) := bn1 (iter (fun v : Int32 × St => bX6_back_39 a1 v.1 v.2) FU (a2, σ)) (fun ex => xX6_back_39 a1 ex)
def fX6_back (a1 : Int32) (σ : St) : Option (Int32 × St) := letB (pI σ 0 0 0) (fun σ1 => bn1 (fX6_in (a1.toInt64) 0 1) (fun r2 => if r2 = 0 then bn2 (fX6_tell (-1) (σ1)) (fun r8 σ9 => some (r8, σ9)) else ckB a1 2 (if (gA σ1 4 a1.toNatClampNeg) = 0 then bn2 (fX6_tell (-2) (σ1)) (fun r6 σ7 => some (r6, σ7)) else fX6_back_39 a1 0 (σ1))))
-- X6_wide
def fX6_wide_72 (a2 : Int32) (σ : St) : Option (Int32 × St) := bn1 (fX6_forget (σ)) (fun σ2 => bn2 (fX6_tell a2 (σ2)) (fun r3 σ4 => some (r3, σ4)))
def bX6_wide_41 (a2 : Int32) (a3 : Int32) (σ : St) : Option ((St) ⊕ (Int32 × St)) := if 5 ≤ a3 then some (.inl (σ)) else ckB (20 + a3) 8060 (letB (pA σ 2 (20 + a3).toNatClampNeg 3) (fun σ3 => ckB (30 + a3) 8060 (letB (pA σ3 2 (30 + a3).toNatClampNeg 3) (fun σ5 => letB (a3 + 1) (fun x6 => some (.inr (x6, σ5)))))))
def xX6_wide_41 (a2 : Int32)  (ex : St) : Option (Int32 × St) := fX6_wide_72 a2 (ex)
def fX6_wide_41 (a2 : Int32) (a3 : Int32) (σ : St) : Option (Int32 × St) := bn1 (iter (fun v : Int32 × St => bX6_wide_41 a2 v.1 v.2) FU (a3, σ)) (fun ex => xX6_wide_41 a2 ex)
def fX6_wide (a1 : Int32) (σ : St) : Option (Int32 × St) := letB (pI σ 0 0 0) (fun σ1 => bn1 (fX6_in (a1.toInt64) 3 5) (fun r2 => if r2 = 0 then bn2 (fX6_tell (-1) (σ1)) (fun r8 σ9 => some (r8, σ9)) else ckB 0 8060 (letB (gA σ1 2 (0 : Int32).toNatClampNeg) (fun x5 => ckB 0 8060 (letB (pA σ1 2 (0 : Int32).toNatClampNeg a1) (fun σ7 => fX6_wide_41 x5 0 (σ7)))))))
-- X6_isCell
def fX6_isCell (a1 : Int64) (σ : St) : Option (Int32) := ckB 0 8060 (bn1 (fX6_in a1 0 (((gA σ 2 (0 : Int32).toNatClampNeg).toInt64) - 1)) (fun r2 => ckZ r2 (some r2)))
-- X6_put
def fX6_put (a1 : Int32) (a2 : Int32) (a3 : Int32) (σ : St) : Option (Int32 × St) := bn1 (fX6_isCell (a2.toInt64) (σ)) (fun r1 => if r1 = 0 then bn2 (fX6_tell (-1) (σ)) (fun r3 σ4 => some (r3, σ4)) else bn1 (fX6_in (a3.toInt64) 1 9) (fun r5 => if r5 = 0 then bn2 (fX6_tell (-1) (σ)) (fun r15 σ16 => some (r15, σ16)) else ckB (a1 + a2) 8060 (letB (gA σ 2 (a1 + a2).toNatClampNeg) (fun x8 => ckB (a1 + a2) 8060 (letB (pA σ 2 (a1 + a2).toNatClampNeg a3) (fun σ10 => bn1 (fX6_forget (σ10)) (fun σ12 => bn2 (fX6_tell x8 (σ12)) (fun r13 σ14 => some (r13, σ14)))))))))
-- X6_bar
def fX6_bar (a1 : Int32) (a2 : Int32) (σ : St) : Option (Int32 × St) := letB (pI σ 0 0 0) (fun σ1 => bn2 (fX6_put 20 a1 a2 (σ1)) (fun r2 σ3 => some (r2, σ3)))
-- X6_shape
def fX6_shape (a1 : Int32) (a2 : Int32) (σ : St) : Option (Int32 × St) := letB (pI σ 0 0 0) (fun σ1 => bn2 (fX6_put 30 a1 a2 (σ1)) (fun r2 σ3 => some (r2, σ3)))
-- X6_tongs
def fX6_tongs (a1 : Int32) (σ : St) : Option (Int32 × St) := letB (pI σ 0 0 0) (fun σ1 => bn1 (fX6_in (a1.toInt64) 2 1022) (fun r2 => if r2 = 0 then bn2 (fX6_tell (-1) (σ1)) (fun r4 σ5 => some (r4, σ5)) else if (a1 &&& 1) = 1 then bn2 (fX6_tell (-1) (σ1)) (fun r15 σ16 => some (r15, σ16)) else ckB 3 8060 (letB (gA σ1 2 (3 : Int32).toNatClampNeg) (fun x8 => ckB 3 8060 (letB (pA σ1 2 (3 : Int32).toNatClampNeg a1) (fun σ10 => bn1 (fX6_forget (σ10)) (fun σ12 => bn2 (fX6_tell x8 (σ12)) (fun r13 σ14 => some (r13, σ14)))))))))
-- X6_terms
def fX6_terms_63 (a1 : Int32) (a2 : Int32) (t0 : Int64) (t1 : Int64) (t2 : Int64) (σ : St) : Option (Int32 × St) := bn1 (fX6_in t0 t1 t2) (fun r1 => if r1 = 0 then bn2 (fX6_tell (-1) (σ)) (fun r11 σ12 => some (r11, σ12)) else ckB (10 + a1) 8060 (letB (gA σ 2 (10 + a1).toNatClampNeg) (fun x4 => ckB (10 + a1) 8060 (letB (pA σ 2 (10 + a1).toNatClampNeg a2) (fun σ6 => bn1 (fX6_forget (σ6)) (fun σ8 => bn2 (fX6_tell x4 (σ8)) (fun r9 σ10 => some (r9, σ10))))))))
def fX6_terms_28 (a1 : Int32) (a2 : Int32) (t0 : Int64) (t1 : Int64) (σ : St) : Option (Int32 × St) := if a1 = 0 then fX6_terms_63 a1 a2 t0 t1 4 (σ) else if a1 = 1 then fX6_terms_63 a1 a2 t0 t1 100 (σ) else if a1 = 4 then fX6_terms_63 a1 a2 t0 t1 50 (σ) else fX6_terms_63 a1 a2 t0 t1 60 (σ)
def fX6_terms (a1 : Int32) (a2 : Int32) (σ : St) : Option (Int32 × St) := letB (pI σ 0 0 0) (fun σ1 => bn1 (fX6_in (a1.toInt64) 0 4) (fun r2 => if r2 = 0 then bn2 (fX6_tell (-1) (σ1)) (fun r4 σ5 => some (r4, σ5)) else if a1 = 0 then fX6_terms_28 a1 a2 (a2.toInt64) 1 (σ1) else fX6_terms_28 a1 a2 (a2.toInt64) 0 (σ1)))
-- X6_row
def fX6_row_132 (a1 : Int32) (σ : St) : Option (Int32 × St) := bn1 (fX6_forget (σ)) (fun σ2 => bn2 (fX6_tell (a1 / 4) (σ2)) (fun r3 σ4 => some (r3, σ4)))
def bX6_row_42 (a1 : Int32) (a2 : Int32) (σ : St) : Option ((St) ⊕ (Int32 × St)) := if (a1 / 4) ≤ a2 then some (.inl (σ)) else ckB (4 * a2) 400 (ckB ((4 * a2) + 1) 400 (ckB ((4 * a2) + 2) 400 (ckB ((4 * a2) + 3) 400 (letB (((((gA σ 5 (4 * a2).toNatClampNeg) <<< (24 &&& 31)) ||| ((gA σ 5 ((4 * a2) + 1).toNatClampNeg) <<< (16 &&& 31))) ||| ((gA σ 5 ((4 * a2) + 2).toNatClampNeg) <<< (8 &&& 31))) ||| (gA σ 5 ((4 * a2) + 3).toNatClampNeg)) (fun x6 => bn1 (fX6_in (x6.toInt64) 1 9) (fun r7 => if r7 = 0 then ckB (20 + a2) 8060 (letB (pA σ 2 (20 + a2).toNatClampNeg 1) (fun σ10 => letB (a2 + 1) (fun x11 => some (.inr (x11, σ10))))) else ckB (20 + a2) 8060 (letB (pA σ 2 (20 + a2).toNatClampNeg x6) (fun σ13 => letB (a2 + 1) (fun x14 => some (.inr (x14, σ13)))))))))))
def xX6_row_42 (a1 : Int32)  (ex : St) : Option (Int32 × St) := fX6_row_132 a1 (ex)
def fX6_row_42 (a1 : Int32) (a2 : Int32) (σ : St) : Option (Int32 × St) := bn1 (iter (fun v : Int32 × St => bX6_row_42 a1 v.1 v.2) FU (a2, σ)) (fun ex => xX6_row_42 a1 ex)
def fX6_row (σ : St) : Option (Int32 × St) := letB (pI σ 0 0 0) (fun σ1 => letB (gI σ1 0 7) (fun x2 => letB (pI σ1 0 7 0) (fun σ3 => if x2 = 0 then bn2 (fX6_tell (-6) (σ3)) (fun r5 σ6 => some (r5, σ6)) else ckB 0 8060 (if ((x2 + 3) / 4) ≤ (gA σ3 2 (0 : Int32).toNatClampNeg) then fX6_row_42 x2 0 (σ3) else bn2 (fX6_tell (-6) (σ3)) (fun r9 σ10 => some (r9, σ10))))))
-- X6_four
def bX6_four_3 (a1 : Int32) (a2 : Int32) (σ : St) : Option ((St) ⊕ (Int32 × St)) := if a2 < 0 then some (.inl (σ)) else ckB (gI σ 0 7) 400 (letB (pA σ 5 (gI σ 0 7).toNatClampNeg ((a1 >>> (a2 &&& 31)) &&& 255)) (fun σ3 => letB (pI σ3 0 7 ((gI σ3 0 7) + 1)) (fun σ4 => letB (a2 + (-8)) (fun x5 => some (.inr (x5, σ4))))))
def xX6_four_3 (a1 : Int32)  (ex : St) : Option (St) := some ex
def fX6_four_3 (a1 : Int32) (a2 : Int32) (σ : St) : Option (St) := bn1 (iter (fun v : Int32 × St => bX6_four_3 a1 v.1 v.2) FU (a2, σ)) (fun ex => xX6_four_3 a1 ex)
def fX6_four (a1 : Int32) (σ : St) : Option (St) := fX6_four_3 a1 24 (σ)
-- X6_feed
def fX6_feed (a1 : Int32) (a2 : Int32) (a3 : Int32) (a4 : Int32) (a5 : Int32) (σ : St) : Option (Int32 × St) := letB (pI σ 0 0 0) (fun σ1 => if ((gI σ1 0 7) + 20) ≤ 400 then bn1 (fX6_four a1 (σ1)) (fun σ4 => bn1 (fX6_four a2 (σ4)) (fun σ6 => bn1 (fX6_four a3 (σ6)) (fun σ8 => bn1 (fX6_four a4 (σ8)) (fun σ10 => bn1 (fX6_four a5 (σ10)) (fun σ12 => some (gI σ12 0 7, σ12)))))) else some ((-1), σ1))
-- X6_end
def fX6_end (a1 : Int32) (σ : St) : Option (Int32 × St) := letB (pI σ 0 0 0) (fun σ1 => if a1 < 0 then some ((-1), σ1) else if a1 ≤ (gI σ1 0 7) then letB (pI σ1 0 7 a1) (fun σ4 => some (a1, σ4)) else some ((-1), σ1))
-- X6_fault
def fX6_fault (σ : St) : Option (Int32 × St) := letB (pI σ 0 0 0) (fun σ1 => some (gI σ1 0 12, σ1))
-- X6_isSmall
def fX6_isSmall (a0 : Int32) : Option (Int32) := if a0 < 97 then some 0 else if 122 < a0 then some 0 else some 1
-- X6_isDigit
def fX6_isDigit (a0 : Int32) : Option (Int32) := if a0 < 48 then some 0 else if 57 < a0 then some 0 else some 1
-- X6_next
def fX6_next_227 (t1 : Int64) (σ : St) : Option ((St) ⊕ (St)) := letB (pL σ 0 11 t1) (fun σ1 => letB (pI σ1 0 9 ((gI σ1 0 9) + 1)) (fun σ2 => some (.inr (σ2))))
def fX6_next_319 (t1 : Int64) (σ : St) : Option ((St) ⊕ (St)) := letB (pL σ 0 11 t1) (fun σ1 => letB (pI σ1 0 9 ((gI σ1 0 9) + 1)) (fun σ2 => some (.inr (σ2))))
def bX6_next_243 (σ : St) : Option ((St) ⊕ (St)) := if (gI σ 0 10) = 2 then if (gI σ 0 7) ≤ (gI σ 0 9) then some (.inl (σ)) else ckB (gI σ 0 9) 400 (bn1 (fX6_isDigit (gA σ 5 (gI σ 0 9).toNatClampNeg)) (fun r4 => if r4 = 0 then some (.inl (σ)) else if (gL σ 0 11) ≤ 1000 then ckB (gI σ 0 9) 400 (fX6_next_319 ((((gL σ 0 11) * 10) + ((gA σ 5 (gI σ 0 9).toNatClampNeg).toInt64)) - 48) (σ)) else fX6_next_319 (gL σ 0 11) (σ))) else some (.inl (σ))
def xX6_next_243   (ex : St) : Option (St) := some ex
def fX6_next_243 (σ : St) : Option (St) := bn1 (iter (fun v : St => bX6_next_243 v) FU (σ)) (fun ex => xX6_next_243 ex)
def bX6_next_149 (σ : St) : Option ((St) ⊕ (St)) := if (gI σ 0 10) = 1 then if (gI σ 0 7) ≤ (gI σ 0 9) then some (.inl (σ)) else ckB (gI σ 0 9) 400 (bn1 (fX6_isSmall (gA σ 5 (gI σ 0 9).toNatClampNeg)) (fun r4 => if r4 = 0 then some (.inl (σ)) else if 10 ≤ ((gI σ 0 9) - (gI σ 0 8)) then fX6_next_227 (-1) (σ) else ckB (gI σ 0 9) 400 (fX6_next_227 ((((gL σ 0 11) * 32) + ((gA σ 5 (gI σ 0 9).toNatClampNeg).toInt64)) - 96) (σ)))) else some (.inl (σ))
def xX6_next_149   (ex : St) : Option (St) := fX6_next_243 (ex)
def fX6_next_149 (σ : St) : Option (St) := bn1 (iter (fun v : St => bX6_next_149 v) FU (σ)) (fun ex => xX6_next_149 ex)
def fX6_next_114 (t1 : Int32) (σ : St) : Option (St) := letB (pI σ 0 10 t1) (fun σ1 => if (gI σ1 0 10) = 3 then ckB (gI σ1 0 8) 400 (letB (pL σ1 0 11 ((gA σ1 5 (gI σ1 0 8).toNatClampNeg).toInt64)) (fun σ4 => letB (pI σ4 0 9 ((gI σ4 0 9) + 1)) (fun σ5 => fX6_next_149 (σ5)))) else fX6_next_149 (σ1))
def fX6_next_46 (σ : St) : Option (St) := letB (pI σ 0 9 (gI σ 0 8)) (fun σ1 => letB (pL σ1 0 11 0) (fun σ2 => if (gI σ2 0 8) = (gI σ2 0 7) then fX6_next_114 0 (σ2) else ckB (gI σ2 0 8) 400 (bn1 (fX6_isSmall (gA σ2 5 (gI σ2 0 8).toNatClampNeg)) (fun r5 => if r5 = 0 then ckB (gI σ2 0 8) 400 (bn1 (fX6_isDigit (gA σ2 5 (gI σ2 0 8).toNatClampNeg)) (fun r8 => if r8 = 0 then fX6_next_114 3 (σ2) else fX6_next_114 2 (σ2))) else fX6_next_114 1 (σ2)))))
def bX6_next_8 (σ : St) : Option ((St) ⊕ (St)) := if (gI σ 0 7) ≤ (gI σ 0 8) then some (.inl (σ)) else ckB (gI σ 0 8) 400 (if (gA σ 5 (gI σ 0 8).toNatClampNeg) = 32 then letB (pI σ 0 8 ((gI σ 0 8) + 1)) (fun σ4 => some (.inr (σ4))) else some (.inl (σ)))
def xX6_next_8   (ex : St) : Option (St) := fX6_next_46 (ex)
def fX6_next_8 (σ : St) : Option (St) := bn1 (iter (fun v : St => bX6_next_8 v) FU (σ)) (fun ex => xX6_next_8 ex)
def fX6_next (σ : St) : Option (St) := letB (pI σ 0 8 (gI σ 0 9)) (fun σ1 => fX6_next_8 (σ1))
-- X6_begin
def fX6_begin (σ : St) : Option (St) := letB (pI σ 0 9 0) (fun σ1 => letB (pI σ1 0 13 0) (fun σ2 => letB (pI σ2 0 12 (-1)) (fun σ3 => bn1 (fX6_next (σ3)) (fun σ5 => some σ5))))
-- X6_isWord
def fX6_isWord (a1 : Int64) (σ : St) : Option (Int32) := if (gI σ 0 10) = 1 then if (gL σ 0 11) = a1 then some 1 else some 0 else some 0
-- X6_sortAt
def fX6_sortAt_20 (σ : St) : Option (Int32) := bn1 (fX6_isWord 206405 (σ)) (fun r1 => if r1 = 0 then some 1 else some 0)
def fX6_sortAt (σ : St) : Option (Int32) := bn1 (fX6_isWord 206405 (σ)) (fun r1 => if r1 = 0 then bn1 (fX6_isWord 659105125 (σ)) (fun r3 => if r3 = 0 then bn1 (fX6_isWord 661950697650 (σ)) (fun r5 => if r5 = 0 then bn1 (fX6_isWord 17479784 (σ)) (fun r7 => if r7 = 0 then bn1 (fX6_isWord 759172 (σ)) (fun r9 => if r9 = 0 then bn1 (fX6_isWord 239 (σ)) (fun r11 => if r11 = 0 then some (-1) else some 5) else some 4) else some 3) else some 2) else fX6_sortAt_20 (σ)) else fX6_sortAt_20 (σ))
-- X6_wrong
def fX6_wrong (σ : St) : Option (St) := if (gI σ 0 13) = 0 then letB (pI σ 0 13 1) (fun σ2 => letB (pI σ2 0 12 (gI σ2 0 8)) (fun σ3 => some σ3)) else some σ
-- X6_must
def fX6_must_8 (σ : St) : Option (St) := if (gI σ 0 13) = 0 then bn1 (fX6_next (σ)) (fun σ3 => some σ3) else some σ
def fX6_must (a1 : Int32) (σ : St) : Option (St) := if a1 = 0 then bn1 (fX6_wrong (σ)) (fun σ3 => fX6_must_8 (σ3)) else fX6_must_8 (σ)
-- X6_number
def fX6_number (a1 : Int64) (σ : St) : Option (Int32 × St) := letB ((gL σ 0 11).toInt32) (fun x1 => if (gI σ 0 10) = 2 then if a1 < (gL σ 0 11) then bn1 (fX6_must 0 (σ)) (fun σ7 => some (x1, σ7)) else bn1 (fX6_must 1 (σ)) (fun σ9 => some (x1, σ9)) else bn1 (fX6_must 0 (σ)) (fun σ4 => some (x1, σ4)))
-- X6_push
def fX6_push (a1 : Int32) (σ : St) : Option (St) := ckB (gI σ 0 19) 400 (letB (pA σ 8 (gI σ 0 19).toNatClampNeg a1) (fun σ2 => letB (pI σ2 0 19 ((gI σ2 0 19) + 1)) (fun σ3 => some σ3)))
-- X6_isSign
def fX6_isSign (a1 : Int32) (σ : St) : Option (Int32) := if (gI σ 0 10) = 3 then if (gL σ 0 11) = (a1.toInt64) then some 1 else some 0 else some 0
-- X6_open
def fX6_open_19 (a2 : Int32) (t1 : Int32) (σ : St) : Option (St) := bn1 (fX6_must t1 (σ)) (fun σ2 => if (gI σ2 0 13) = 0 then letB (pI σ2 0 20 ((gI σ2 0 20) + 1)) (fun σ4 => bn1 (fX6_push a2 (σ4)) (fun σ6 => some σ6)) else some σ2)
def fX6_open_18 (a2 : Int32) (σ : St) : Option (St) := fX6_open_19 a2 0 (σ)
def fX6_open (a1 : Int32) (a2 : Int32) (σ : St) : Option (St) := if a1 = 0 then fX6_open_18 a2 (σ) else if 8 ≤ (gI σ 0 20) then fX6_open_18 a2 (σ) else fX6_open_19 a2 1 (σ)
-- X6_wordAt
def fX6_wordAt (σ : St) : Option (Int32) := bn1 (fX6_isWord 3322259 (σ)) (fun r1 => if r1 = 0 then bn1 (fX6_isWord 398548 (σ)) (fun r3 => if r3 = 0 then bn1 (fX6_isWord 8554131 (σ)) (fun r5 => if r5 = 0 then bn1 (fX6_isWord 659117163 (σ)) (fun r7 => if r7 = 0 then some (-1) else some 4) else some 3) else some 2) else some 1)
-- X6_emit
def fX6_emit (a1 : Int32) (a2 : Int32) (σ : St) : Option (St) := ckB (gI σ 0 15) 400 (letB (pA σ 6 (gI σ 0 15).toNatClampNeg a1) (fun σ2 => ckB (gI σ2 0 15) 400 (letB (pA σ2 7 (gI σ2 0 15).toNatClampNeg a2) (fun σ4 => letB (pI σ4 0 15 ((gI σ4 0 15) + 1)) (fun σ5 => some σ5)))))
-- X6_readPart
def fX6_readPart_80 (t0 : Int32) (σ : St) : Option (Int32 × St) := bn1 (fX6_next (σ)) (fun σ2 => bn1 (fX6_isSign 40 (σ2)) (fun r3 => bn1 (fX6_open r3 t0 (σ2)) (fun σ5 => some (1, σ5))))
def fX6_readPart_63 (σ : St) : Option (Int32 × St) := bn1 (fX6_isWord 313838 (σ)) (fun r1 => if r1 = 0 then fX6_readPart_80 33 (σ) else fX6_readPart_80 32 (σ))
def fX6_readPart (σ : St) : Option (Int32 × St) := if (gI σ 0 14) = 60 then bn1 (fX6_wrong (σ)) (fun σ23 => some (4, σ23)) else letB (pI σ 0 14 ((gI σ 0 14) + 1)) (fun σ2 => bn1 (fX6_isSign 91 (σ2)) (fun r3 => if r3 = 0 then bn1 (fX6_isWord 313838 (σ2)) (fun r5 => if r5 = 0 then bn1 (fX6_isWord 8692 (σ2)) (fun r7 => if r7 = 0 then bn1 (fX6_wordAt (σ2)) (fun r9 => if r9 = (-1) then bn2 (fX6_number 99 (σ2)) (fun r11 σ12 => if (gI σ12 0 13) = 0 then bn1 (fX6_emit 0 r11 (σ12)) (fun σ15 => some (3, σ15)) else some (3, σ12)) else bn1 (fX6_next (σ2)) (fun σ17 => bn1 (fX6_emit r9 0 (σ17)) (fun σ19 => some (3, σ19)))) else fX6_readPart_63 (σ2)) else fX6_readPart_63 (σ2)) else bn1 (fX6_open 1 31 (σ2)) (fun σ21 => some (1, σ21))))
-- X6_readPlain
def fX6_readPlain (σ : St) : Option (Int32 × St) := bn1 (fX6_isWord 14836 (σ)) (fun r1 => if r1 = 0 then bn1 (fX6_isSign 40 (σ)) (fun r3 => if r3 = 0 then bn2 (fX6_readPart (σ)) (fun r5 σ6 => some (r5, σ6)) else bn1 (fX6_open 1 30 (σ)) (fun σ8 => some (0, σ8))) else bn1 (fX6_push 27 (σ)) (fun σ10 => bn1 (fX6_next (σ10)) (fun σ12 => some (0, σ12))))
-- X6_binds
def fX6_binds (a0 : Int32) : Option (Int32) := if a0 < 30 then if a0 = 29 then some 1 else if a0 = 28 then some 2 else if a0 = 27 then some 3 else if a0 < 24 then some 5 else some 4 else some 0
-- X6_settle
def bX6_settle_0 (a1 : Int32) (σ : St) : Option ((St) ⊕ (St)) := if (gI σ 0 19) ≤ 0 then some (.inl (σ)) else ckB ((gI σ 0 19) - 1) 400 (bn1 (fX6_binds (gA σ 8 ((gI σ 0 19) - 1).toNatClampNeg)) (fun r3 => if r3 < a1 then some (.inl (σ)) else letB (pI σ 0 19 ((gI σ 0 19) - 1)) (fun σ5 => ckB (gI σ5 0 19) 400 (bn1 (fX6_emit (gA σ5 8 (gI σ5 0 19).toNatClampNeg) 0 (σ5)) (fun σ8 => some (.inr (σ8)))))))
def xX6_settle_0 (a1 : Int32)  (ex : St) : Option (St) := some ex
def fX6_settle_0 (a1 : Int32) (σ : St) : Option (St) := bn1 (iter (fun v : St => bX6_settle_0 a1 v) FU (σ)) (fun ex => xX6_settle_0 a1 ex)
def fX6_settle (a1 : Int32) (σ : St) : Option (St) := fX6_settle_0 a1 σ
-- X6_inner
def bX6_inner_4 (a1 : Int32) (a2 : Int32) (σ : St) : Option ((Int32) ⊕ (Int32 × Int32)) := if (gI σ 0 19) ≤ a2 then some (.inl a1) else ckB a2 400 (if (gA σ 8 a2.toNatClampNeg) < 30 then letB (a2 + 1) (fun x4 => some (.inr (a1, x4))) else ckB a2 400 (letB (gA σ 8 a2.toNatClampNeg) (fun x6 => letB (a2 + 1) (fun x7 => some (.inr (x6, x7))))))
def xX6_inner_4  (σ : St) (ex : Int32) : Option (Int32) := some ex
def fX6_inner_4 (a1 : Int32) (a2 : Int32) (σ : St) : Option (Int32) := bn1 (iter (fun v : Int32 × Int32 => bX6_inner_4 v.1 v.2 σ) FU (a1, a2)) (fun ex => xX6_inner_4 σ ex)
def fX6_inner (σ : St) : Option (Int32) := fX6_inner_4 (-1) 0 (σ)
-- X6_isCompared
def fX6_isCompared_36 (a1 : Int32) (σ : St) : Option (Int32) := if a1 < 0 then some 0 else ckB a1 400 (bn1 (fX6_in ((gA σ 8 a1.toNatClampNeg).toInt64) 24 26) (fun r3 => if r3 = 0 then some 0 else some 1))
def bX6_isCompared_7 (a1 : Int32) (σ : St) : Option ((Int32) ⊕ (Int32)) := if a1 < 0 then some (.inl a1) else ckB a1 400 (bn1 (fX6_in ((gA σ 8 a1.toNatClampNeg).toInt64) 20 21) (fun r3 => if r3 = 0 then some (.inl a1) else letB (a1 + (-1)) (fun x5 => some (.inr x5))))
def xX6_isCompared_7  (σ : St) (ex : Int32) : Option (Int32) := fX6_isCompared_36 ex (σ)
def fX6_isCompared_7 (a1 : Int32) (σ : St) : Option (Int32) := bn1 (iter (fun v : Int32 => bX6_isCompared_7 v σ) FU a1) (fun ex => xX6_isCompared_7 σ ex)
def fX6_isCompared (σ : St) : Option (Int32) := letB ((gI σ 0 19) - 1) (fun x1 => fX6_isCompared_7 x1 (σ))
-- X6_behindSum
def fX6_behindSum_18 (σ : St) : Option (Int32 × St) := bn1 (fX6_settle 5 (σ)) (fun σ2 => bn1 (fX6_isSign 43 (σ2)) (fun r3 => if r3 = 0 then bn1 (fX6_push 21 (σ2)) (fun σ6 => bn1 (fX6_next (σ6)) (fun σ8 => some (1, σ8))) else bn1 (fX6_push 20 (σ2)) (fun σ10 => bn1 (fX6_next (σ10)) (fun σ12 => some (1, σ12)))))
def fX6_behindSum_199 (a3 : Int32) (t1 : Int32) (σ : St) : Option (Int32 × St) := bn1 (fX6_must t1 (σ)) (fun σ2 => if (gI σ2 0 13) = 0 then bn1 (fX6_settle 5 (σ2)) (fun σ5 => bn1 (fX6_push a3 (σ5)) (fun σ7 => some (1, σ7))) else some (1, σ2))
def fX6_behindSum_194 (a3 : Int32) (σ : St) : Option (Int32 × St) := fX6_behindSum_199 a3 1 (σ)
def fX6_behindSum_177 (t0 : Int32) (σ : St) : Option (Int32 × St) := if t0 = 26 then bn1 (fX6_isSign 61 (σ)) (fun r2 => if r2 = 0 then fX6_behindSum_199 t0 0 (σ) else fX6_behindSum_194 t0 (σ)) else fX6_behindSum_194 t0 (σ)
def fX6_behindSum_138 (σ : St) : Option (Int32 × St) := bn1 (fX6_isCompared (σ)) (fun r1 => if r1 = 0 then bn1 (fX6_isSign 60 (σ)) (fun r3 => if r3 = 0 then bn1 (fX6_isSign 62 (σ)) (fun r5 => if r5 = 0 then fX6_behindSum_177 26 (σ) else fX6_behindSum_177 25 (σ)) else fX6_behindSum_177 24 (σ)) else some (2, σ))
def fX6_behindSum_75 (a2 : Int32) (t2 : Int32) (σ : St) : Option (Int32 × St) := bn1 (fX6_isSign t2 (σ)) (fun r1 => bn1 (fX6_must r1 (σ)) (fun σ3 => if (gI σ3 0 13) = 0 then bn1 (fX6_settle 5 (σ3)) (fun σ6 => letB (pI σ6 0 19 ((gI σ6 0 19) - 1)) (fun σ7 => letB (pI σ7 0 20 ((gI σ7 0 20) - 1)) (fun σ8 => if a2 = 31 then some (3, σ8) else bn1 (fX6_emit a2 0 (σ8)) (fun σ11 => some (3, σ11))))) else some (3, σ3)))
def fX6_behindSum (a1 : Int32) (σ : St) : Option (Int32 × St) := bn1 (fX6_isSign 43 (σ)) (fun r1 => if r1 = 0 then bn1 (fX6_isSign 45 (σ)) (fun r3 => if r3 = 0 then bn1 (fX6_inner (σ)) (fun r5 => if r5 ≤ 30 then if r5 = (-1) then if a1 = 0 then some (4, σ) else fX6_behindSum_138 (σ) else fX6_behindSum_138 (σ) else if r5 = 31 then fX6_behindSum_75 r5 93 (σ) else fX6_behindSum_75 r5 41 (σ)) else fX6_behindSum_18 (σ)) else fX6_behindSum_18 (σ))
-- X6_behindTest
def fX6_behindTest_32 (a1 : Int32) (t1 : Int32) (σ : St) : Option (Int32 × St) := bn1 (fX6_settle t1 (σ)) (fun σ2 => if a1 = 0 then bn1 (fX6_push 29 (σ2)) (fun σ5 => bn1 (fX6_next (σ5)) (fun σ7 => some (0, σ7))) else bn1 (fX6_push 28 (σ2)) (fun σ9 => bn1 (fX6_next (σ9)) (fun σ11 => some (0, σ11))))
def fX6_behindTest_22 (a1 : Int32) (σ : St) : Option (Int32 × St) := if a1 = 0 then fX6_behindTest_32 a1 1 (σ) else fX6_behindTest_32 a1 2 (σ)
def fX6_behindTest (σ : St) : Option (Int32 × St) := bn1 (fX6_isWord 1476 (σ)) (fun r1 => if r1 = 0 then bn1 (fX6_isWord 498 (σ)) (fun r3 => if r3 = 0 then bn1 (fX6_inner (σ)) (fun r5 => if r5 = (-1) then some (4, σ) else bn1 (fX6_isSign 41 (σ)) (fun r7 => bn1 (fX6_must r7 (σ)) (fun σ9 => if (gI σ9 0 13) = 0 then bn1 (fX6_settle 1 (σ9)) (fun σ12 => letB (pI σ12 0 19 ((gI σ12 0 19) - 1)) (fun σ13 => letB (pI σ13 0 20 ((gI σ13 0 20) - 1)) (fun σ14 => some (2, σ14)))) else some (2, σ9)))) else fX6_behindTest_22 r1 (σ)) else fX6_behindTest_22 r1 (σ))
-- X6_readExpression
def bX6_readExpression_20 (a1 : Int32) (a2 : Int32) (σ : St) : Option ((St) ⊕ (Int32 × St)) := if (gI σ 0 13) = 0 then if a2 = 4 then some (.inl (σ)) else if a2 = 0 then bn2 (fX6_readPlain (σ)) (fun r12 σ13 => some (.inr (r12, σ13))) else if a2 = 1 then bn2 (fX6_readPart (σ)) (fun r10 σ11 => some (.inr (r10, σ11))) else if a2 = 3 then bn2 (fX6_behindSum a1 (σ)) (fun r8 σ9 => some (.inr (r8, σ9))) else bn2 (fX6_behindTest (σ)) (fun r6 σ7 => some (.inr (r6, σ7))) else some (.inl (σ))
def xX6_readExpression_20 (a1 : Int32)  (ex : St) : Option (St) := bn1 (fX6_settle 1 (ex)) (fun σ2 => some σ2)
def fX6_readExpression_20 (a1 : Int32) (a2 : Int32) (σ : St) : Option (St) := bn1 (iter (fun v : Int32 × St => bX6_readExpression_20 a1 v.1 v.2) FU (a2, σ)) (fun ex => xX6_readExpression_20 a1 ex)
def fX6_readExpression (a1 : Int32) (σ : St) : Option (St) := letB (pI σ 0 19 0) (fun σ1 => letB (pI σ1 0 20 0) (fun σ2 => if a1 = 0 then fX6_readExpression_20 a1 1 (σ2) else fX6_readExpression_20 a1 0 (σ2)))
-- X6_readStep
def fX6_readStep_187 (a2 : Int32) (σ : St) : Option (St) := ckB (a2 + 4) 160 (letB (pA σ 9 (a2 + 4).toNatClampNeg (gI σ 0 15)) (fun σ2 => letB (pI σ2 0 22 ((gI σ2 0 22) + 1)) (fun σ3 => some σ3)))
def fX6_readStep_149 (a2 : Int32) (σ : St) : Option (St) := ckB (a2 + 3) 160 (letB (pA σ 9 (a2 + 3).toNatClampNeg (gI σ 0 15)) (fun σ2 => if (gI σ2 0 13) = 0 then bn1 (fX6_isWord 294 (σ2)) (fun r4 => if r4 = 0 then fX6_readStep_187 a2 (σ2) else bn1 (fX6_next (σ2)) (fun σ7 => bn1 (fX6_readExpression 1 (σ7)) (fun σ9 => fX6_readStep_187 a2 (σ9)))) else fX6_readStep_187 a2 (σ2)))
def fX6_readStep_102 (a1 : Int32) (a2 : Int32) (σ : St) : Option (St) := ckB (a2 + 2) 160 (letB (pA σ 9 (a2 + 2).toNatClampNeg (gI σ 0 15)) (fun σ2 => if a1 = 1 then if (gI σ2 0 13) = 0 then bn1 (fX6_isWord 655 (σ2)) (fun r5 => bn1 (fX6_must r5 (σ2)) (fun σ7 => if (gI σ7 0 13) = 0 then bn1 (fX6_readExpression 0 (σ7)) (fun σ10 => fX6_readStep_149 a2 (σ10)) else fX6_readStep_149 a2 (σ7))) else fX6_readStep_149 a2 (σ2) else fX6_readStep_149 a2 (σ2)))
def fX6_readStep_25 (a1 : Int32) (t1 : Int32) (σ : St) : Option (St) := bn1 (fX6_must t1 (σ)) (fun σ2 => if (gI σ2 0 13) = 0 then letB (10 * (gI σ2 0 22)) (fun x4 => ckB x4 160 (letB (pA σ2 9 x4.toNatClampNeg a1) (fun σ6 => ckB (x4 + 1) 160 (letB (pA σ6 9 (x4 + 1).toNatClampNeg (gI σ6 0 15)) (fun σ8 => ckB (x4 + 7) 160 (letB (pA σ8 9 (x4 + 7).toNatClampNeg 0) (fun σ10 => if a1 = 5 then bn2 (fX6_number 15 (σ10)) (fun r14 σ15 => ckB (x4 + 7) 160 (letB (pA σ15 9 (x4 + 7).toNatClampNeg r14) (fun σ17 => fX6_readStep_102 a1 x4 (σ17)))) else bn1 (fX6_readExpression 0 (σ10)) (fun σ13 => fX6_readStep_102 a1 x4 (σ13))))))))) else some σ2)
def fX6_readStep_24 (a1 : Int32) (σ : St) : Option (St) := fX6_readStep_25 a1 0 (σ)
def fX6_readStep (σ : St) : Option (St) := bn1 (fX6_sortAt (σ)) (fun r1 => if r1 = (-1) then fX6_readStep_24 r1 (σ) else if 16 ≤ (gI σ 0 22) then fX6_readStep_24 r1 (σ) else fX6_readStep_25 r1 1 (σ))
-- X6_recipe
def fX6_recipe_233 (σ : St) : Option (Int32 × St) := ckB 1 8060 (ckB 1 8060 (letB (pA σ 2 (1 : Int32).toNatClampNeg ((gA σ 2 (1 : Int32).toNatClampNeg) + 1)) (fun σ3 => ckB 1 8060 (bn2 (fX6_tell ((gA σ3 2 (1 : Int32).toNatClampNeg) - 1) (σ3)) (fun r5 σ6 => some (r5, σ6))))))
def bX6_recipe_177 (a1 : Int32) (a2 : Int32) (σ : St) : Option ((St) ⊕ (Int32 × St)) := if (gI σ 0 15) ≤ a2 then some (.inl (σ)) else ckB a2 400 (ckB ((a1 + 180) + (2 * a2)) 8060 (letB (pA σ 2 ((a1 + 180) + (2 * a2)).toNatClampNeg (gA σ 6 a2.toNatClampNeg)) (fun σ4 => ckB a2 400 (ckB (((a1 + 180) + (2 * a2)) + 1) 8060 (letB (pA σ4 2 (((a1 + 180) + (2 * a2)) + 1).toNatClampNeg (gA σ4 7 a2.toNatClampNeg)) (fun σ7 => letB (a2 + 1) (fun x8 => some (.inr (x8, σ7)))))))))
def xX6_recipe_177 (a1 : Int32)  (ex : St) : Option (Int32 × St) := fX6_recipe_233 (ex)
def fX6_recipe_177 (a1 : Int32) (a2 : Int32) (σ : St) : Option (Int32 × St) := bn1 (iter (fun v : Int32 × St => bX6_recipe_177 a1 v.1 v.2) FU (a2, σ)) (fun ex => xX6_recipe_177 a1 ex)
def bX6_recipe_141 (a1 : Int32) (a2 : Int32) (σ : St) : Option ((St) ⊕ (Int32 × St)) := if (10 * (gI σ 0 22)) ≤ a2 then some (.inl (σ)) else ckB a2 160 (ckB ((a1 + 10) + a2) 8060 (letB (pA σ 2 ((a1 + 10) + a2).toNatClampNeg (gA σ 9 a2.toNatClampNeg)) (fun σ4 => letB (a2 + 1) (fun x5 => some (.inr (x5, σ4))))))
def xX6_recipe_141 (a1 : Int32)  (ex : St) : Option (Int32 × St) := fX6_recipe_177 a1 0 (ex)
def fX6_recipe_141 (a1 : Int32) (a2 : Int32) (σ : St) : Option (Int32 × St) := bn1 (iter (fun v : Int32 × St => bX6_recipe_141 a1 v.1 v.2) FU (a2, σ)) (fun ex => xX6_recipe_141 a1 ex)
def fX6_recipe_96 (σ : St) : Option (Int32 × St) := letB (pI σ 0 7 0) (fun σ1 => if (gI σ1 0 13) = 0 then ckB 1 8060 (letB (60 + (1000 * (gA σ1 2 (1 : Int32).toNatClampNeg))) (fun x4 => ckB x4 8060 (letB (pA σ1 2 x4.toNatClampNeg (gI σ1 0 22)) (fun σ6 => fX6_recipe_141 x4 0 (σ6))))) else bn2 (fX6_tell (-6) (σ1)) (fun r7 σ8 => some (r7, σ8)))
def fX6_recipe_78 (σ : St) : Option (Int32 × St) := if (gI σ 0 13) = 0 then if (gI σ 0 10) = 0 then fX6_recipe_96 (σ) else bn1 (fX6_wrong (σ)) (fun σ4 => fX6_recipe_96 (σ4)) else fX6_recipe_96 (σ)
def bX6_recipe_51 (σ : St) : Option ((St) ⊕ (St)) := if (gI σ 0 13) = 0 then bn1 (fX6_isSign 59 (σ)) (fun r2 => if r2 = 0 then some (.inl (σ)) else bn1 (fX6_next (σ)) (fun σ5 => bn1 (fX6_readStep (σ5)) (fun σ7 => some (.inr (σ7))))) else some (.inl (σ))
def xX6_recipe_51   (ex : St) : Option (Int32 × St) := fX6_recipe_78 (ex)
def fX6_recipe_51 (σ : St) : Option (Int32 × St) := bn1 (iter (fun v : St => bX6_recipe_51 v) FU (σ)) (fun ex => xX6_recipe_51 ex)
def fX6_recipe (σ : St) : Option (Int32 × St) := letB (pI σ 0 0 0) (fun σ1 => ckB 1 8060 (if (gA σ1 2 (1 : Int32).toNatClampNeg) = 8 then letB (pI σ1 0 7 0) (fun σ11 => bn2 (fX6_tell (-5) (σ11)) (fun r12 σ13 => some (r12, σ13))) else bn1 (fX6_begin (σ1)) (fun σ5 => letB (pI σ5 0 22 0) (fun σ6 => letB (pI σ6 0 15 0) (fun σ7 => letB (pI σ7 0 14 0) (fun σ8 => bn1 (fX6_readStep (σ8)) (fun σ10 => fX6_recipe_51 (σ10))))))))
-- X6_isRecipe
def fX6_isRecipe (a1 : Int32) (σ : St) : Option (Int32) := ckB 1 8060 (bn1 (fX6_in (a1.toInt64) 0 (((gA σ 2 (1 : Int32).toNatClampNeg).toInt64) - 1)) (fun r2 => ckZ r2 (some r2)))
-- X6_steps
def fX6_steps (a1 : Int32) (σ : St) : Option (Int32 × St) := letB (pI σ 0 0 0) (fun σ1 => bn1 (fX6_isRecipe a1 (σ1)) (fun r2 => if r2 = 0 then some ((-1), σ1) else ckB (60 + (1000 * a1)) 8060 (some (gA σ1 2 (60 + (1000 * a1)).toNatClampNeg, σ1))))
-- X6_rest0
def fX6_rest0_42 (σ : St) : Option (St) := letB (pI σ 0 26 0) (fun σ1 => letB (pI σ1 0 27 0) (fun σ2 => letB (pI σ2 0 28 (-1)) (fun σ3 => letB (pI σ3 0 29 0) (fun σ4 => letB (pI σ4 0 30 0) (fun σ5 => letB (pI σ5 0 31 0) (fun σ6 => letB (pI σ6 0 32 0) (fun σ7 => letB (pI σ7 0 33 0) (fun σ8 => letB (pI σ8 0 34 0) (fun σ9 => letB (pI σ9 0 35 (-1)) (fun σ10 => letB (pI σ10 0 36 0) (fun σ11 => letB (pI σ11 0 37 0) (fun σ12 => letB (pI σ12 0 38 0) (fun σ13 => letB (pI σ13 0 39 0) (fun σ14 => letB (pI σ14 0 40 0) (fun σ15 => letB (pI σ15 0 41 0) (fun σ16 => some σ16))))))))))))))))
def bX6_rest0_2 (a1 : Int32) (σ : St) : Option ((St) ⊕ (Int32 × St)) := if 5 ≤ a1 then some (.inl (σ)) else ckB (20 + a1) 8060 (ckB a1 5 (letB (pA σ 10 a1.toNatClampNeg (gA σ 2 (20 + a1).toNatClampNeg)) (fun σ4 => ckB a1 5 (letB (pA σ4 11 a1.toNatClampNeg 0) (fun σ6 => ckB a1 5 (letB (pA σ6 12 a1.toNatClampNeg 0) (fun σ8 => letB (a1 + 1) (fun x9 => some (.inr (x9, σ8))))))))))
def xX6_rest0_2   (ex : St) : Option (St) := fX6_rest0_42 (ex)
def fX6_rest0_2 (a1 : Int32) (σ : St) : Option (St) := bn1 (iter (fun v : Int32 × St => bX6_rest0_2 v.1 v.2) FU (a1, σ)) (fun ex => xX6_rest0_2 ex)
def fX6_rest0 (σ : St) : Option (St) := fX6_rest0_2 0 (σ)
-- X6_joined
def fX6_joined (a0 : Int32) (a1 : Int32) (a2 : Int32) : Option (Int32) := if a0 = 20 then some (a1 + a2) else if a0 = 21 then some (a1 - a2) else if a0 = 22 then some (a1 ||| a2) else if a0 = 23 then some (a1 ||| a2) else if a0 = 24 then if a2 ≤ a1 then some 0 else some 1 else if a0 = 25 then if a1 ≤ a2 then some 0 else some 1 else if a0 = 26 then if a1 = a2 then some 1 else some 0 else if a0 = 27 then some (a1 ||| a2) else if a0 = 28 then some (a1 &&& a2) else some (a1 ||| a2)
-- X6_reckon
def fX6_reckon_111 (a1 : Int32) (a3 : Int32) (a4 : Int32) (a5 : Int32) (t1 : Int32) (t2 : Int32) (σ : St) : Option ((Int32 × St) ⊕ (Int32 × Int32 × St)) := ckB t1 400 (letB (pA σ 13 t1.toNatClampNeg t2) (fun σ2 => letB (a4 + 1) (fun x3 => letB (a5 + 1) (fun x4 => some (.inr (x3, x4, σ2))))))
def fX6_reckon_257 (a4 : Int32) (σ : St) : Option (Int32 × St) := if a4 = 0 then some (0, σ) else ckB 0 400 (some (gA σ 13 (0 : Int32).toNatClampNeg, σ))
def bX6_reckon_6 (a1 : Int32) (a3 : Int32) (a4 : Int32) (a5 : Int32) (σ : St) : Option ((Int32 × St) ⊕ (Int32 × Int32 × St)) := if a3 ≤ a5 then some (.inl (a4, σ)) else ckB ((a1 + 180) + (2 * a5)) 8060 (letB (gA σ 2 ((a1 + 180) + (2 * a5)).toNatClampNeg) (fun x3 => if 4 < x3 then if x3 = 27 then ckB (a4 - 1) 400 (ckB (a4 - 1) 400 (letB (pA σ 13 (a4 - 1).toNatClampNeg (1 - (gA σ 13 (a4 - 1).toNatClampNeg))) (fun σ31 => letB (a5 + 1) (fun x32 => some (.inr (a4, x32, σ31)))))) else if x3 < 32 then letB (a4 + (-1)) (fun x7 => ckB (x7 - 1) 400 (ckB x7 400 (bn1 (fX6_joined x3 (gA σ 13 (x7 - 1).toNatClampNeg) (gA σ 13 x7.toNatClampNeg)) (fun r10 => ckB (x7 - 1) 400 (letB (pA σ 13 (x7 - 1).toNatClampNeg r10) (fun σ12 => letB (a5 + 1) (fun x13 => some (.inr (x7, x13, σ12))))))))) else ckB (a4 - 1) 400 (letB (gA σ 13 (a4 - 1).toNatClampNeg) (fun x15 => bn1 (fX6_isCell (x15.toInt64) (σ)) (fun r16 => if r16 = 0 then ckB (a4 - 1) 400 (letB (pA σ 13 (a4 - 1).toNatClampNeg 0) (fun σ27 => letB (a5 + 1) (fun x28 => some (.inr (a4, x28, σ27))))) else if x3 = 32 then ckB x15 5 (ckB (a4 - 1) 400 (letB (pA σ 13 (a4 - 1).toNatClampNeg (gA σ 10 x15.toNatClampNeg)) (fun σ24 => letB (a5 + 1) (fun x25 => some (.inr (a4, x25, σ24)))))) else ckB (a4 - 1) 400 (letB (pA σ 13 (a4 - 1).toNatClampNeg (((gI σ 0 26) >>> (x15 &&& 31)) &&& 1)) (fun σ20 => letB (a5 + 1) (fun x21 => some (.inr (a4, x21, σ20)))))))) else if x3 = 0 then ckB (((a1 + 180) + (2 * a5)) + 1) 8060 (fX6_reckon_111 a1 a3 a4 a5 a4 (gA σ 2 (((a1 + 180) + (2 * a5)) + 1).toNatClampNeg) (σ)) else if x3 = 1 then ckB 0 8060 (fX6_reckon_111 a1 a3 a4 a5 a4 (gA σ 2 (0 : Int32).toNatClampNeg) (σ)) else if x3 = 2 then fX6_reckon_111 a1 a3 a4 a5 a4 (gI σ 0 27) (σ) else if x3 = 3 then fX6_reckon_111 a1 a3 a4 a5 a4 (gI σ 0 29) (σ) else fX6_reckon_111 a1 a3 a4 a5 a4 (gI σ 0 30) (σ)))
def xX6_reckon_6 (a1 : Int32) (a3 : Int32)  (ex : Int32 × St) : Option (Int32 × St) := fX6_reckon_257 ex.1 (ex.2)
def fX6_reckon_6 (a1 : Int32) (a3 : Int32) (a4 : Int32) (a5 : Int32) (σ : St) : Option (Int32 × St) := bn1 (iter (fun v : Int32 × Int32 × St => bX6_reckon_6 a1 a3 v.1 v.2.1 v.2.2) FU (a4, a5, σ)) (fun ex => xX6_reckon_6 a1 a3 ex)
def fX6_reckon (a1 : Int32) (a2 : Int32) (a3 : Int32) (σ : St) : Option (Int32 × St) := fX6_reckon_6 a1 a3 0 a2 (σ)
-- X6_isHot
def fX6_isHot (a1 : Int32) (σ : St) : Option (Int32) := if (((gI σ 0 26) >>> (a1 &&& 31)) &&& 1) = 1 then some 1 else some 0
-- X6_uses
def fX6_uses_11 (a2 : Int32) (σ : St) : Option (Int32 × St) := letB (pI σ 0 33 ((gI σ 0 33) + 1)) (fun σ1 => letB (pI σ1 0 40 ((gI σ1 0 40) ||| (1 <<< (a2 &&& 31)))) (fun σ2 => some (0, σ2)))
def fX6_uses (a1 : Int32) (a2 : Int32) (σ : St) : Option (Int32 × St) := if (gI σ 0 27) = 0 then fX6_uses_11 a2 (σ) else if a1 = 0 then fX6_uses_11 a2 (σ) else letB (pI σ 0 27 ((gI σ 0 27) - 1)) (fun σ3 => letB (pI σ3 0 30 ((gI σ3 0 30) + 1)) (fun σ4 => some (1, σ4)))
-- X6_lose
def fX6_lose (a1 : Int32) (σ : St) : Option (St) := ckB a1 5 (if (gA σ 10 a1.toNatClampNeg) ≤ 1 then some σ else ckB a1 5 (ckB a1 5 (letB (pA σ 10 a1.toNatClampNeg ((gA σ 10 a1.toNatClampNeg) - 1)) (fun σ5 => letB (pI σ5 0 34 ((gI σ5 0 34) + 1)) (fun σ6 => some σ6)))))
-- X6_punch
def fX6_punch (a1 : Int32) (σ : St) : Option (St) := bn1 (fX6_isHot a1 (σ)) (fun r1 => bn2 (fX6_uses r1 a1 (σ)) (fun r2 σ3 => if r2 = 0 then some σ3 else ckB a1 5 (ckB a1 5 (letB (pA σ3 11 a1.toNatClampNeg ((gA σ3 11 a1.toNatClampNeg) + 1)) (fun σ7 => ckB a1 5 (if (gA σ7 11 a1.toNatClampNeg) = 2 then letB (pI σ7 0 37 ((gI σ7 0 37) ||| (1 <<< (a1 &&& 31)))) (fun σ10 => bn1 (fX6_lose a1 (σ10)) (fun σ12 => some σ12)) else some σ7))))))
-- X6_weld
def fX6_weld_42 (a1 : Int32) (t1 : Int32) (σ : St) : Option (St) := bn2 (fX6_uses t1 a1 (σ)) (fun r1 σ2 => if r1 = 0 then some σ2 else letB (pI σ2 0 38 ((gI σ2 0 38) ||| (1 <<< (a1 &&& 31)))) (fun σ4 => ckB 14 8060 (letB ((30 + (10 * (gI σ4 0 27))) + (gA σ4 2 (14 : Int32).toNatClampNeg)) (fun x6 => if x6 ≤ 100 then ckB a1 5 (letB (pA σ4 12 a1.toNatClampNeg x6) (fun σ9 => some σ9)) else ckB a1 5 (letB (pA σ4 12 a1.toNatClampNeg 100) (fun σ11 => some σ11))))))
def fX6_weld_41 (a1 : Int32) (σ : St) : Option (St) := fX6_weld_42 a1 0 (σ)
def fX6_weld_37 (a1 : Int32) (σ : St) : Option (St) := fX6_weld_42 a1 1 (σ)
def fX6_weld (a1 : Int32) (σ : St) : Option (St) := bn1 (fX6_isHot a1 (σ)) (fun r1 => if r1 = 0 then fX6_weld_41 a1 (σ) else bn1 (fX6_isHot (a1 + 1) (σ)) (fun r3 => if r3 = 0 then fX6_weld_41 a1 (σ) else if (gI σ 0 28) = a1 then fX6_weld_37 a1 (σ) else if (gI σ 0 28) = (a1 + 1) then fX6_weld_37 a1 (σ) else fX6_weld_41 a1 (σ)))
-- X6_isNear
def fX6_isNear (a0 : Int32) (a1 : Int32) : Option (Int32) := if 1 < (a0 - a1) then some 0 else if 1 < (a1 - a0) then some 0 else some 1
-- X6_draw
def fX6_draw (a1 : Int32) (σ : St) : Option (Int32 × St) := letB (pL σ 0 43 ((((gL σ 0 43) * 1103) + 12345) - ((((gL σ 0 43) * 1103) + 12345) / 1000003) * 1000003)) (fun σ1 => ckL (a1.toInt64) (some (((gL σ1 0 43) - ((gL σ1 0 43) / (a1.toInt64)) * (a1.toInt64)).toInt32, σ1)))
-- X6_strike
def fX6_strike_106 (σ : St) : Option (St) := letB (pI σ 0 32 ((gI σ 0 32) + 1)) (fun σ1 => some σ1)
def fX6_strike_117 (a1 : Int32) (a2 : Int32) (σ : St) : Option (St) := ckB a1 5 (ckB a1 5 (letB (pA σ 10 a1.toNatClampNeg ((gA σ 10 a1.toNatClampNeg) - 1)) (fun σ3 => ckB a2 5 (ckB a2 5 (letB (pA σ3 10 a2.toNatClampNeg ((gA σ3 10 a2.toNatClampNeg) + 1)) (fun σ6 => letB (pI σ6 0 31 ((gI σ6 0 31) + 1)) (fun σ7 => ckB a2 5 (ckB a1 5 (if (gA σ7 10 a2.toNatClampNeg) ≤ (2 * (gA σ7 10 a1.toNatClampNeg)) then letB (pI σ7 0 39 ((gI σ7 0 39) ||| 0)) (fun σ11 => some σ11) else letB (pI σ7 0 39 ((gI σ7 0 39) ||| (1 <<< (a2 &&& 31)))) (fun σ12 => some σ12))))))))))
def fX6_strike_78 (a1 : Int32) (a2 : Int32) (t0 : Int32) (σ : St) : Option (St) := if t0 = 0 then fX6_strike_106 (σ) else if (gI σ 0 42) = (-1) then fX6_strike_117 a1 a2 (σ) else bn2 (fX6_draw 100 (σ)) (fun r3 σ4 => if (gI σ4 0 42) ≤ r3 then fX6_strike_117 a1 a2 (σ4) else fX6_strike_106 (σ4))
def fX6_strike_77 (a1 : Int32) (a2 : Int32) (σ : St) : Option (St) := fX6_strike_78 a1 a2 0 (σ)
def fX6_strike_40 (a1 : Int32) (a2 : Int32) (t0 : Int32) (σ : St) : Option (St) := ckB a1 5 (if (gA σ 10 a1.toNatClampNeg) < 2 then fX6_strike_77 a1 a2 (σ) else ckB a2 5 (if (gA σ 10 a2.toNatClampNeg) = 9 then fX6_strike_77 a1 a2 (σ) else if (((gI σ 0 36) >>> (t0 &&& 31)) &&& 1) = 0 then fX6_strike_78 a1 a2 1 (σ) else fX6_strike_77 a1 a2 (σ)))
def fX6_strike_22 (a1 : Int32) (a2 : Int32) (t1 : Int32) (σ : St) : Option (St) := bn2 (fX6_uses t1 a1 (σ)) (fun r1 σ2 => if r1 = 0 then some σ2 else if a2 ≤ a1 then fX6_strike_40 a1 a2 a2 (σ2) else fX6_strike_40 a1 a2 a1 (σ2))
def fX6_strike_17 (a1 : Int32) (a2 : Int32) (σ : St) : Option (St) := fX6_strike_22 a1 a2 1 (σ)
def fX6_strike (a1 : Int32) (a2 : Int32) (σ : St) : Option (St) := bn1 (fX6_isHot a1 (σ)) (fun r1 => if r1 = 0 then bn1 (fX6_isHot a2 (σ)) (fun r3 => if r3 = 0 then fX6_strike_22 a1 a2 0 (σ) else fX6_strike_17 a1 a2 (σ)) else fX6_strike_17 a1 a2 (σ))
-- X6_fire
def fX6_fire_45 (a1 : Int32) (a3 : Int32) (σ : St) : Option ((Int32) ⊕ (Int32 × Int32)) := letB (a3 + 1) (fun x1 => some (.inr (1, x1)))
def fX6_fire_110 (a1 : Int32) (σ : St) : Option (Int32 × St) := letB (pI σ 0 28 a1) (fun σ1 => letB (pI σ1 0 29 ((gI σ1 0 29) + 1)) (fun σ2 => ckB 10 8060 (letB (pI σ2 0 27 (gA σ2 2 (10 : Int32).toNatClampNeg)) (fun σ4 => bn1 (fX6_lose a1 (σ4)) (fun σ6 => some (1, σ6))))))
def bX6_fire_70 (a1 : Int32) (a3 : Int32) (σ : St) : Option ((St) ⊕ (Int32 × St)) := ckB 0 8060 (if (gA σ 2 (0 : Int32).toNatClampNeg) ≤ a3 then some (.inl (σ)) else bn1 (fX6_isNear a3 a1) (fun r3 => if r3 = 0 then letB (pI σ 0 26 ((gI σ 0 26) ||| 0)) (fun σ5 => letB (a3 + 1) (fun x6 => some (.inr (x6, σ5)))) else letB (pI σ 0 26 ((gI σ 0 26) ||| (1 <<< (a3 &&& 31)))) (fun σ7 => letB (a3 + 1) (fun x8 => some (.inr (x8, σ7))))))
def xX6_fire_70 (a1 : Int32)  (ex : St) : Option (Int32 × St) := fX6_fire_110 a1 (ex)
def fX6_fire_70 (a1 : Int32) (a3 : Int32) (σ : St) : Option (Int32 × St) := bn1 (iter (fun v : Int32 × St => bX6_fire_70 a1 v.1 v.2) FU (a3, σ)) (fun ex => xX6_fire_70 a1 ex)
def fX6_fire_57 (a1 : Int32) (a2 : Int32) (σ : St) : Option (Int32 × St) := if a2 = 0 then some (0, σ) else letB (pI σ 0 26 0) (fun σ2 => fX6_fire_70 a1 0 (σ2))
def bX6_fire_4 (a1 : Int32) (a2 : Int32) (a3 : Int32) (σ : St) : Option ((Int32) ⊕ (Int32 × Int32)) := ckB 0 8060 (if (gA σ 2 (0 : Int32).toNatClampNeg) ≤ a3 then some (.inl a2) else if a2 = 0 then bn1 (fX6_isNear a3 a1) (fun r4 => if r4 = 0 then ckB 3 8060 (ckB a3 5 (if (((gA σ 2 (3 : Int32).toNatClampNeg) >>> ((gA σ 10 a3.toNatClampNeg) &&& 31)) &&& 1) = 1 then fX6_fire_45 a1 a3 (σ) else letB (a3 + 1) (fun x10 => some (.inr (0, x10))))) else letB (a3 + 1) (fun x6 => some (.inr (0, x6)))) else fX6_fire_45 a1 a3 (σ))
def xX6_fire_4 (a1 : Int32) (σ : St) (ex : Int32) : Option (Int32 × St) := fX6_fire_57 a1 ex (σ)
def fX6_fire_4 (a1 : Int32) (a2 : Int32) (a3 : Int32) (σ : St) : Option (Int32 × St) := bn1 (iter (fun v : Int32 × Int32 => bX6_fire_4 a1 v.1 v.2 σ) FU (a2, a3)) (fun ex => xX6_fire_4 a1 σ ex)
def fX6_fire (a1 : Int32) (σ : St) : Option (Int32 × St) := fX6_fire_4 a1 0 0 (σ)
-- X6_doStep
def fX6_doStep_144 (σ : St) : Option (Int32 × St) := letB (pI σ 0 32 ((gI σ 0 32) + 1)) (fun σ1 => some (1, σ1))
def fX6_doStep (a1 : Int32) (a2 : Int32) (σ : St) : Option (Int32 × St) := ckB (a2 + 1) 8060 (ckB (a2 + 2) 8060 (bn2 (fX6_reckon a1 (gA σ 2 (a2 + 1).toNatClampNeg) (gA σ 2 (a2 + 2).toNatClampNeg) (σ)) (fun r3 σ4 => bn1 (fX6_isCell (r3.toInt64) (σ4)) (fun r5 => if r5 = 0 then letB (pI σ4 0 32 ((gI σ4 0 32) + 1)) (fun σ52 => some (1, σ52)) else ckB a2 8060 (letB (gA σ4 2 a2.toNatClampNeg) (fun x8 => if x8 = 0 then bn2 (fX6_fire r3 (σ4)) (fun r10 σ11 => ckZ r10 (some (r10, σ11))) else if x8 = 1 then ckB (a2 + 2) 8060 (ckB (a2 + 3) 8060 (bn2 (fX6_reckon a1 (gA σ4 2 (a2 + 2).toNatClampNeg) (gA σ4 2 (a2 + 3).toNatClampNeg) (σ4)) (fun r15 σ16 => bn1 (fX6_isCell (r15.toInt64) (σ16)) (fun r17 => if r17 = 0 then fX6_doStep_144 (σ16) else if r3 = r15 then fX6_doStep_144 (σ16) else bn1 (fX6_isNear r3 r15) (fun r20 => if r20 = 0 then fX6_doStep_144 (σ16) else bn1 (fX6_strike r3 r15 (σ16)) (fun σ23 => some (1, σ23))))))) else if x8 = 2 then bn1 (fX6_isCell ((r3.toInt64) + 1) (σ4)) (fun r25 => if r25 = 0 then letB (pI σ4 0 32 ((gI σ4 0 32) + 1)) (fun σ36 => some (1, σ36)) else ckB a2 8060 (if (gA σ4 2 a2.toNatClampNeg) = 4 then bn1 (fX6_weld r3 (σ4)) (fun σ35 => some (1, σ35)) else bn1 (fX6_isHot r3 (σ4)) (fun r29 => bn2 (fX6_uses r29 r3 (σ4)) (fun r30 σ31 => if r30 = 0 then some (1, σ31) else letB (pI σ31 0 36 ((gI σ31 0 36) ||| (1 <<< (r3 &&& 31)))) (fun σ33 => some (1, σ33)))))) else if x8 = 3 then bn1 (fX6_punch r3 (σ4)) (fun σ39 => some (1, σ39)) else bn1 (fX6_isCell ((r3.toInt64) + 1) (σ4)) (fun r40 => if r40 = 0 then letB (pI σ4 0 32 ((gI σ4 0 32) + 1)) (fun σ51 => some (1, σ51)) else ckB a2 8060 (if (gA σ4 2 a2.toNatClampNeg) = 4 then bn1 (fX6_weld r3 (σ4)) (fun σ50 => some (1, σ50)) else bn1 (fX6_isHot r3 (σ4)) (fun r44 => bn2 (fX6_uses r44 r3 (σ4)) (fun r45 σ46 => if r45 = 0 then some (1, σ46) else letB (pI σ46 0 36 ((gI σ46 0 36) ||| (1 <<< (r3 &&& 31)))) (fun σ48 => some (1, σ48))))))))))))
-- X6_goThrough
def fX6_goThrough_195 (a2 : Int32) (a3 : Int32) (a4 : Int32) (a6 : Int32) (a7 : Int32) (σ : St) : Option ((St) ⊕ (Int32 × St)) := if a7 = 0 then letB (pI σ 0 35 (-1)) (fun σ2 => letB (a4 + 1) (fun x3 => some (.inr (x3, σ2)))) else bn2 (fX6_doStep a3 a6 (σ)) (fun r4 σ5 => if r4 = 0 then letB (pI σ5 0 35 a4) (fun σ9 => letB (a4 + 1) (fun x10 => some (.inr (x10, σ9)))) else letB (pI σ5 0 35 (-1)) (fun σ7 => letB (a4 + 1) (fun x8 => some (.inr (x8, σ7)))))
def fX6_goThrough_162 (a2 : Int32) (a3 : Int32) (a4 : Int32) (a6 : Int32) (t0 : Int32) (σ : St) : Option ((St) ⊕ (Int32 × St)) := if t0 = 0 then fX6_goThrough_195 a2 a3 a4 a6 t0 (σ) else ckB a6 8060 (if (gA σ 2 a6.toNatClampNeg) = 5 then ckB (a6 + 7) 8060 (letB (gA σ 2 (a6 + 7).toNatClampNeg) (fun x5 => some (.inr (x5, σ)))) else fX6_goThrough_195 a2 a3 a4 a6 t0 (σ))
def fX6_goThrough_157 (a2 : Int32) (a3 : Int32) (a4 : Int32) (a6 : Int32) (σ : St) : Option ((St) ⊕ (Int32 × St)) := fX6_goThrough_162 a2 a3 a4 a6 1 (σ)
def fX6_goThrough_95 (a2 : Int32) (a3 : Int32) (a4 : Int32) (t0 : Int32) (σ : St) : Option ((St) ⊕ (Int32 × St)) := letB ((a3 + 10) + (10 * t0)) (fun x1 => ckB (x1 + 3) 8060 (ckB (x1 + 4) 8060 (if (gA σ 2 (x1 + 3).toNatClampNeg) = (gA σ 2 (x1 + 4).toNatClampNeg) then fX6_goThrough_157 a2 a3 a4 x1 (σ) else ckB (x1 + 3) 8060 (ckB (x1 + 4) 8060 (bn2 (fX6_reckon a3 (gA σ 2 (x1 + 3).toNatClampNeg) (gA σ 2 (x1 + 4).toNatClampNeg) (σ)) (fun r7 σ8 => if r7 = 1 then fX6_goThrough_157 a2 a3 a4 x1 (σ8) else fX6_goThrough_162 a2 a3 a4 x1 0 (σ8)))))))
def fX6_goThrough_73 (a2 : Int32) (a3 : Int32) (a4 : Int32) (σ : St) : Option ((St) ⊕ (Int32 × St)) := fX6_goThrough_95 a2 a3 a4 a4 (σ)
def fX6_goThrough_78 (a2 : Int32) (a3 : Int32) (a4 : Int32) (σ : St) : Option ((St) ⊕ (Int32 × St)) := if a4 = a2 then fX6_goThrough_95 a2 a3 a4 (a4 + 1) (σ) else fX6_goThrough_95 a2 a3 a4 (a4 - 1) (σ)
def bX6_goThrough_16 (a2 : Int32) (a3 : Int32) (a4 : Int32) (σ : St) : Option ((St) ⊕ (Int32 × St)) := ckB a3 8060 (if (gA σ 2 a3.toNatClampNeg) ≤ a4 then some (.inl (σ)) else if 100 ≤ (gI σ 0 41) then some (.inl (σ)) else if (gI σ 0 35) = (-1) then letB (pI σ 0 41 ((gI σ 0 41) + 1)) (fun σ5 => if a2 = (-1) then fX6_goThrough_73 a2 a3 a4 (σ5) else if a4 = a2 then fX6_goThrough_78 a2 a3 a4 (σ5) else if a4 = (a2 + 1) then fX6_goThrough_78 a2 a3 a4 (σ5) else fX6_goThrough_73 a2 a3 a4 (σ5)) else some (.inl (σ)))
def xX6_goThrough_16 (a2 : Int32) (a3 : Int32)  (ex : St) : Option (St) := some ex
def fX6_goThrough_16 (a2 : Int32) (a3 : Int32) (a4 : Int32) (σ : St) : Option (St) := bn1 (iter (fun v : Int32 × St => bX6_goThrough_16 a2 a3 v.1 v.2) FU (a4, σ)) (fun ex => xX6_goThrough_16 a2 a3 ex)
def fX6_goThrough (a1 : Int32) (a2 : Int32) (σ : St) : Option (St) := bn1 (fX6_rest0 (σ)) (fun σ2 => letB (60 + (1000 * a1)) (fun x3 => fX6_goThrough_16 a2 x3 0 (σ2)))
-- X6_run
def fX6_run_78 (σ : St) : Option (Int32 × St) := ckB 0 12 (letB (pA σ 15 (0 : Int32).toNatClampNeg (gI σ 0 29)) (fun σ2 => ckB 1 12 (letB (pA σ2 15 (1 : Int32).toNatClampNeg (gI σ2 0 30)) (fun σ4 => ckB 2 12 (letB (pA σ4 15 (2 : Int32).toNatClampNeg (gI σ4 0 31)) (fun σ6 => ckB 3 12 (letB (pA σ6 15 (3 : Int32).toNatClampNeg (gI σ6 0 32)) (fun σ8 => ckB 4 12 (letB (pA σ8 15 (4 : Int32).toNatClampNeg (gI σ8 0 33)) (fun σ10 => ckB 5 12 (letB (pA σ10 15 (5 : Int32).toNatClampNeg (gI σ10 0 34)) (fun σ12 => ckB 6 12 (letB (pA σ12 15 (6 : Int32).toNatClampNeg (gI σ12 0 35)) (fun σ14 => ckB 7 12 (letB (pA σ14 15 (7 : Int32).toNatClampNeg (gI σ14 0 36)) (fun σ16 => ckB 8 12 (letB (pA σ16 15 (8 : Int32).toNatClampNeg (gI σ16 0 37)) (fun σ18 => ckB 9 12 (letB (pA σ18 15 (9 : Int32).toNatClampNeg (gI σ18 0 38)) (fun σ20 => ckB 10 12 (letB (pA σ20 15 (10 : Int32).toNatClampNeg (gI σ20 0 39)) (fun σ22 => ckB 11 12 (letB (pA σ22 15 (11 : Int32).toNatClampNeg (gI σ22 0 40)) (fun σ24 => bn2 (fX6_tell (gI σ24 0 41) (σ24)) (fun r25 σ26 => some (r25, σ26))))))))))))))))))))))))))
def bX6_run_43 (a2 : Int32) (σ : St) : Option ((St) ⊕ (Int32 × St)) := if 5 ≤ a2 then some (.inl (σ)) else ckB a2 5 (ckB a2 5 (letB (pA σ 14 a2.toNatClampNeg (gA σ 10 a2.toNatClampNeg)) (fun σ4 => ckB a2 5 (ckB a2 5 (letB (pA σ4 16 a2.toNatClampNeg (gA σ4 12 a2.toNatClampNeg)) (fun σ7 => letB (a2 + 1) (fun x8 => some (.inr (x8, σ7)))))))))
def xX6_run_43   (ex : St) : Option (Int32 × St) := fX6_run_78 (ex)
def fX6_run_43 (a2 : Int32) (σ : St) : Option (Int32 × St) := bn1 (iter (fun v : Int32 × St => bX6_run_43 v.1 v.2) FU (a2, σ)) (fun ex => xX6_run_43 ex)
def fX6_run (a1 : Int32) (σ : St) : Option (Int32 × St) := letB (pI σ 0 0 0) (fun σ1 => bn1 (fX6_isRecipe a1 (σ1)) (fun r2 => if r2 = 0 then bn2 (fX6_tell (-2) (σ1)) (fun r9 σ10 => some (r9, σ10)) else letB (pI σ1 0 42 (-1)) (fun σ4 => bn1 (fX6_goThrough a1 (-1) (σ4)) (fun σ6 => ckB 0 8060 (letB (pI σ6 0 45 (gA σ6 2 (0 : Int32).toNatClampNeg)) (fun σ8 => fX6_run_43 0 (σ8)))))))
-- X6_came
def fX6_came (a1 : Int32) (σ : St) : Option (Int32 × St) := letB (pI σ 0 0 0) (fun σ1 => if (gI σ1 0 45) = 0 then some ((-1000), σ1) else bn1 (fX6_in (a1.toInt64) 0 13) (fun r3 => if r3 = 0 then some ((-1000), σ1) else if a1 = 12 then ckB 11 8060 (ckB 0 12 (some ((gA σ1 2 (11 : Int32).toNatClampNeg) * (gA σ1 15 (0 : Int32).toNatClampNeg), σ1))) else if a1 = 13 then ckB 12 8060 (ckB 0 12 (ckB 13 8060 (ckB 1 12 (some (((gA σ1 2 (12 : Int32).toNatClampNeg) * (gA σ1 15 (0 : Int32).toNatClampNeg)) + ((gA σ1 2 (13 : Int32).toNatClampNeg) * (gA σ1 15 (1 : Int32).toNatClampNeg)), σ1))))) else ckB a1 12 (some (gA σ1 15 a1.toNatClampNeg, σ1))))
-- X6_iron
def fX6_iron (a1 : Int32) (σ : St) : Option (Int32 × St) := letB (pI σ 0 0 0) (fun σ1 => bn1 (fX6_in (a1.toInt64) 0 (((gI σ1 0 45).toInt64) - 1)) (fun r2 => if r2 = 0 then some ((-1), σ1) else ckB a1 5 (some (gA σ1 14 a1.toNatClampNeg, σ1))))
-- X6_welds
def fX6_welds_113 (a1 : Int32) (a2 : Int64) (a4 : Int64) (a6 : Int64) (σ : St) : Option (Int64 × St) := if a1 = 0 then ckL a6 (some (a2 / a6, σ)) else ckL a6 (some (a4 / a6, σ))
def bX6_welds_88 (a1 : Int32) (a2 : Int64) (a4 : Int64) (a6 : Int64) (a8 : Int64) (σ : St) : Option ((Int64) ⊕ (Int64 × Int64)) := if a8 ≤ 0 then some (.inl a6) else ckL a8 (letB (a6 - (a6 / a8) * a8) (fun x3 => some (.inr (a8, x3))))
def xX6_welds_88 (a1 : Int32) (a2 : Int64) (a4 : Int64) (σ : St) (ex : Int64) : Option (Int64 × St) := fX6_welds_113 a1 a2 a4 ex (σ)
def fX6_welds_88 (a1 : Int32) (a2 : Int64) (a4 : Int64) (a6 : Int64) (a8 : Int64) (σ : St) : Option (Int64 × St) := bn1 (iter (fun v : Int64 × Int64 => bX6_welds_88 a1 a2 a4 v.1 v.2 σ) FU (a6, a8)) (fun ex => xX6_welds_88 a1 a2 a4 σ ex)
def bX6_welds_34 (a1 : Int32) (a2 : Int64) (a4 : Int64) (a6 : Int32) (σ : St) : Option ((Int64 × Int64) ⊕ (Int64 × Int64 × Int32)) := if 4 ≤ a6 then some (.inl (a2, a4)) else ckB 9 12 (if (((gA σ 15 (9 : Int32).toNatClampNeg) >>> (a6 &&& 31)) &&& 1) = 1 then ckB a6 5 (letB (a2 * ((gA σ 16 a6.toNatClampNeg).toInt64)) (fun x6 => letB (a4 * 100) (fun x7 => letB (a6 + 1) (fun x8 => some (.inr (x6, x7, x8)))))) else letB (a6 + 1) (fun x4 => some (.inr (a2, a4, x4))))
def xX6_welds_34 (a1 : Int32) (σ : St) (ex : Int64 × Int64) : Option (Int64 × St) := fX6_welds_88 a1 ex.1 ex.2 ex.1 ex.2 (σ)
def fX6_welds_34 (a1 : Int32) (a2 : Int64) (a4 : Int64) (a6 : Int32) (σ : St) : Option (Int64 × St) := bn1 (iter (fun v : Int64 × Int64 × Int32 => bX6_welds_34 a1 v.1 v.2.1 v.2.2 σ) FU (a2, a4, a6)) (fun ex => xX6_welds_34 a1 σ ex)
def fX6_welds (a1 : Int32) (σ : St) : Option (Int64 × St) := letB (pI σ 0 0 0) (fun σ1 => if (gI σ1 0 45) = 0 then some ((-1), σ1) else bn1 (fX6_in (a1.toInt64) 0 1) (fun r3 => if r3 = 0 then some ((-1), σ1) else fX6_welds_34 a1 1 1 0 (σ1)))
-- X6_keepIron
def bX6_keepIron_2 (a1 : Int32) (σ : St) : Option ((St) ⊕ (Int32 × St)) := if 5 ≤ a1 then some (.inl (σ)) else ckB a1 5 (ckB a1 60 (letB (pA σ 17 a1.toNatClampNeg (gA σ 10 a1.toNatClampNeg)) (fun σ4 => letB (a1 + 1) (fun x5 => some (.inr (x5, σ4))))))
def xX6_keepIron_2   (ex : St) : Option (St) := some ex
def fX6_keepIron_2 (a1 : Int32) (σ : St) : Option (St) := bn1 (iter (fun v : Int32 × St => bX6_keepIron_2 v.1 v.2) FU (a1, σ)) (fun ex => xX6_keepIron_2 ex)
def fX6_keepIron (σ : St) : Option (St) := fX6_keepIron_2 0 (σ)
-- X6_apart
def bX6_apart_4 (a1 : Int32) (a2 : Int32) (a3 : Int32) (σ : St) : Option ((Int32) ⊕ (Int32 × Int32)) := ckB 0 8060 (if (gA σ 2 (0 : Int32).toNatClampNeg) ≤ a3 then some (.inl a2) else ckB a3 5 (ckB ((5 * a1) + a3) 60 (letB ((gA σ 10 a3.toNatClampNeg) - (gA σ 17 ((5 * a1) + a3).toNatClampNeg)) (fun x5 => if 0 ≤ x5 then letB (a2 + x5) (fun x7 => letB (a3 + 1) (fun x8 => some (.inr (x7, x8)))) else letB (a2 + (-x5)) (fun x9 => letB (a3 + 1) (fun x10 => some (.inr (x9, x10))))))))
def xX6_apart_4 (a1 : Int32) (σ : St) (ex : Int32) : Option (Int32) := some ex
def fX6_apart_4 (a1 : Int32) (a2 : Int32) (a3 : Int32) (σ : St) : Option (Int32) := bn1 (iter (fun v : Int32 × Int32 => bX6_apart_4 a1 v.1 v.2 σ) FU (a2, a3)) (fun ex => xX6_apart_4 a1 σ ex)
def fX6_apart (a1 : Int32) (σ : St) : Option (Int32) := fX6_apart_4 a1 0 0 (σ)
-- X6_change
def fX6_change_141 (t0 : Int32) (σ : St) : Option (Int32 × St) := if t0 = 0 then some (0, σ) else bn1 (fX6_apart 0 (σ)) (fun r2 => if r2 = 0 then some (1, σ) else some (0, σ))
def fX6_change_140 (σ : St) : Option (Int32 × St) := fX6_change_141 0 (σ)
def fX6_change (a1 : Int32) (a2 : Int32) (σ : St) : Option (Int32 × St) := letB (pI σ 0 0 0) (fun σ1 => bn1 (fX6_isRecipe a1 (σ1)) (fun r2 => if r2 = 0 then some ((-1), σ1) else ckB (60 + (1000 * a1)) 8060 (bn1 (fX6_in (a2.toInt64) 0 (((gA σ1 2 (60 + (1000 * a1)).toNatClampNeg).toInt64) - 2)) (fun r5 => if r5 = 0 then some ((-1), σ1) else letB (pI σ1 0 42 (-1)) (fun σ7 => bn1 (fX6_goThrough a1 (-1) (σ7)) (fun σ9 => letB (gI σ9 0 36) (fun x10 => letB (gI σ9 0 37) (fun x11 => letB (gI σ9 0 38) (fun x12 => letB (gI σ9 0 39) (fun x13 => letB (gI σ9 0 40) (fun x14 => bn1 (fX6_keepIron (σ9)) (fun σ16 => bn1 (fX6_goThrough a1 a2 (σ16)) (fun σ18 => if x10 = (gI σ18 0 36) then if x11 = (gI σ18 0 37) then if x12 = (gI σ18 0 38) then if x13 = (gI σ18 0 39) then if x14 = (gI σ18 0 40) then fX6_change_141 1 (σ18) else fX6_change_140 (σ18) else fX6_change_140 (σ18) else fX6_change_140 (σ18) else fX6_change_140 (σ18) else fX6_change_140 (σ18))))))))))))))
-- X6_made
def fX6_made_177 (a2 : Int32) (a3 : Int32) (a9 : Int32) (t0 : Int32) (σ : St) : Option ((Int32 × St) ⊕ (Int32 × Int32 × St)) := letB (t0 ||| 0) (fun x1 => letB (a9 + 1) (fun x2 => some (.inr (x1, x2, σ))))
def bX6_made_118 (a2 : Int32) (a3 : Int32) (a8 : Int32) (a9 : Int32) (σ : St) : Option ((Int32 × St) ⊕ (Int32 × Int32 × St)) := ckB 1 8060 (if (gA σ 2 (1 : Int32).toNatClampNeg) ≤ a9 then some (.inl (a8, σ)) else bn1 (fX6_goThrough a9 (-1) (σ)) (fun σ4 => bn1 (fX6_apart 0 (σ4)) (fun r5 => if r5 = 0 then if (gI σ4 0 37) = a2 then if (gI σ4 0 39) = a3 then if (gI σ4 0 35) = (-1) then letB (a8 ||| (1 <<< (a9 &&& 31))) (fun x10 => letB (a9 + 1) (fun x11 => some (.inr (x10, x11, σ4)))) else fX6_made_177 a2 a3 a9 a8 (σ4) else fX6_made_177 a2 a3 a9 a8 (σ4) else fX6_made_177 a2 a3 a9 a8 (σ4) else fX6_made_177 a2 a3 a9 a8 (σ4))))
def xX6_made_118 (a2 : Int32) (a3 : Int32)  (ex : Int32 × St) : Option (Int32 × St) := some (ex.1, ex.2)
def fX6_made_118 (a2 : Int32) (a3 : Int32) (a8 : Int32) (a9 : Int32) (σ : St) : Option (Int32 × St) := bn1 (iter (fun v : Int32 × Int32 × St => bX6_made_118 a2 a3 v.1 v.2.1 v.2.2) FU (a8, a9, σ)) (fun ex => xX6_made_118 a2 a3 ex)
def fX6_made_100 (a2 : Int32) (a3 : Int32) (a7 : Int32) (σ : St) : Option (Int32 × St) := if a7 = 0 then letB (pI σ 0 42 (-1)) (fun σ2 => fX6_made_118 a2 a3 0 0 (σ2)) else some ((-1), σ)
def bX6_made_58 (a2 : Int32) (a3 : Int32) (a7 : Int32) (a8 : Int32) (σ : St) : Option (((St) ⊕ (Int32 × St)) ⊕ (Int32 × Int32 × St)) := if a8 < 0 then some (.inl (.inr (a7, σ))) else ckB a8 60 (letB (pA σ 17 a8.toNatClampNeg (a7 - (a7 / 10) * 10)) (fun σ3 => letB (a7 / 10) (fun x4 => ckB a8 60 (if (gA σ3 17 a8.toNatClampNeg) = 0 then some (.inl (.inl (σ3))) else letB (a8 + (-1)) (fun x7 => some (.inr (x4, x7, σ3)))))))
def xX6_made_58 (a2 : Int32) (a3 : Int32)  (ex : (St) ⊕ (Int32 × St)) : Option (Int32 × St) := match ex with
  | (.inl (σ')) => some ((-1), σ')
  | (.inr (b7, σ')) => fX6_made_100 a2 a3 b7 (σ')
def fX6_made_58 (a2 : Int32) (a3 : Int32) (a7 : Int32) (a8 : Int32) (σ : St) : Option (Int32 × St) := bn1 (iter (fun v : Int32 × Int32 × St => bX6_made_58 a2 a3 v.1 v.2.1 v.2.2) FU (a7, a8, σ)) (fun ex => xX6_made_58 a2 a3 ex)
def fX6_made (a1 : Int32) (a2 : Int32) (a3 : Int32) (σ : St) : Option (Int32 × St) := letB (pI σ 0 0 0) (fun σ1 => ckB 0 8060 (letB (gA σ1 2 (0 : Int32).toNatClampNeg) (fun x3 => letB ((1 <<< (x3.toInt64 &&& 63)) - 1) (fun x4 => if a1 < 0 then some ((-1), σ1) else bn1 (fX6_in (a2.toInt64) 0 x4) (fun r6 => if r6 = 0 then some ((-1), σ1) else bn1 (fX6_in (a3.toInt64) 0 x4) (fun r8 => if r8 = 0 then some ((-1), σ1) else letB (x3 - 1) (fun x10 => fX6_made_58 a2 a3 a1 x10 (σ1))))))))
-- X6_twelve
def bX6_twelve_140 (a1 : Int32) (a4 : Int32) (a5 : Int32) (a6 : Int32) (a7 : Int32) (a8 : Int32) (σ : St) : Option ((Int32) ⊕ (Int32 × Int32)) := if a7 ≤ a8 then some (.inl a6) else bn1 (fX6_apart a8 (σ)) (fun r2 => if r2 ≤ a6 then letB (a8 + 1) (fun x4 => some (.inr (a6, x4))) else letB (a8 + 1) (fun x5 => some (.inr (r2, x5))))
def xX6_twelve_140 (a1 : Int32) (a4 : Int32) (a5 : Int32) (a7 : Int32) (σ : St) (ex : Int32) : Option ((Int32 × Int32 × St) ⊕ (Int32 × Int32 × Int32 × St)) := letB (a7 + 1) (fun x1 => some (.inr (a5, ex, x1, σ)))
def fX6_twelve_140 (a1 : Int32) (a4 : Int32) (a5 : Int32) (a6 : Int32) (a7 : Int32) (a8 : Int32) (σ : St) : Option ((Int32 × Int32 × St) ⊕ (Int32 × Int32 × Int32 × St)) := bn1 (iter (fun v : Int32 × Int32 => bX6_twelve_140 a1 a4 a5 v.1 a7 v.2 σ) FU (a6, a8)) (fun ex => xX6_twelve_140 a1 a4 a5 a7 σ ex)
def fX6_twelve_119 (a1 : Int32) (a4 : Int32) (a5 : Int32) (a6 : Int32) (a7 : Int32) (σ : St) : Option ((Int32 × Int32 × St) ⊕ (Int32 × Int32 × Int32 × St)) := bn1 (fX6_apart 0 (σ)) (fun r1 => if r1 = 0 then letB (a5 + 1) (fun x4 => fX6_twelve_140 a1 a4 x4 a6 a7 0 (σ)) else letB (a5 + 0) (fun x3 => fX6_twelve_140 a1 a4 x3 a6 a7 0 (σ)))
def bX6_twelve_88 (a1 : Int32) (a4 : Int32) (a5 : Int32) (a6 : Int32) (a7 : Int32) (a8 : Int32) (σ : St) : Option ((St) ⊕ (Int32 × St)) := if 5 ≤ a8 then some (.inl (σ)) else ckB a8 5 (ckB ((5 * a7) + a8) 60 (letB (pA σ 17 ((5 * a7) + a8).toNatClampNeg (gA σ 10 a8.toNatClampNeg)) (fun σ4 => letB (a8 + 1) (fun x5 => some (.inr (x5, σ4))))))
def xX6_twelve_88 (a1 : Int32) (a4 : Int32) (a5 : Int32) (a6 : Int32) (a7 : Int32)  (ex : St) : Option ((Int32 × Int32 × St) ⊕ (Int32 × Int32 × Int32 × St)) := fX6_twelve_119 a1 a4 a5 a6 a7 (ex)
def fX6_twelve_88 (a1 : Int32) (a4 : Int32) (a5 : Int32) (a6 : Int32) (a7 : Int32) (a8 : Int32) (σ : St) : Option ((Int32 × Int32 × St) ⊕ (Int32 × Int32 × Int32 × St)) := bn1 (iter (fun v : Int32 × St => bX6_twelve_88 a1 a4 a5 a6 a7 v.1 v.2) FU (a8, σ)) (fun ex => xX6_twelve_88 a1 a4 a5 a6 a7 ex)
def fX6_twelve_232 (a4 : Int32) (a5 : Int32) (a6 : Int32) (a7 : Int32) (σ : St) : Option (Int32 × St) := if a4 = 0 then some (a5, σ) else if a4 = 1 then some (a6, σ) else some (a7, σ)
def bX6_twelve_200 (a4 : Int32) (a5 : Int32) (a6 : Int32) (a7 : Int32) (a8 : Int32) (σ : St) : Option ((Int32) ⊕ (Int32 × Int32)) := if 12 ≤ a8 then some (.inl a7) else bn1 (fX6_apart a8 (σ)) (fun r2 => if r2 = 0 then letB (a7 + 1) (fun x6 => letB (a8 + 1) (fun x7 => some (.inr (x6, x7)))) else letB (a7 + 0) (fun x4 => letB (a8 + 1) (fun x5 => some (.inr (x4, x5)))))
def xX6_twelve_200 (a4 : Int32) (a5 : Int32) (a6 : Int32) (σ : St) (ex : Int32) : Option (Int32 × St) := fX6_twelve_232 a4 a5 a6 ex (σ)
def fX6_twelve_200 (a4 : Int32) (a5 : Int32) (a6 : Int32) (a7 : Int32) (a8 : Int32) (σ : St) : Option (Int32 × St) := bn1 (iter (fun v : Int32 × Int32 => bX6_twelve_200 a4 a5 a6 v.1 v.2 σ) FU (a7, a8)) (fun ex => xX6_twelve_200 a4 a5 a6 σ ex)
def fX6_twelve_183 (a1 : Int32) (a4 : Int32) (a5 : Int32) (a6 : Int32) (σ : St) : Option (Int32 × St) := letB (pI σ 0 42 (-1)) (fun σ1 => bn1 (fX6_goThrough a1 (-1) (σ1)) (fun σ3 => fX6_twelve_200 a4 a5 a6 0 0 (σ3)))
def bX6_twelve_72 (a1 : Int32) (a4 : Int32) (a5 : Int32) (a6 : Int32) (a7 : Int32) (σ : St) : Option ((Int32 × Int32 × St) ⊕ (Int32 × Int32 × Int32 × St)) := if 12 ≤ a7 then some (.inl (a5, a6, σ)) else bn1 (fX6_goThrough a1 (-1) (σ)) (fun σ3 => fX6_twelve_88 a1 a4 a5 a6 a7 0 (σ3))
def xX6_twelve_72 (a1 : Int32) (a4 : Int32)  (ex : Int32 × Int32 × St) : Option (Int32 × St) := fX6_twelve_183 a1 a4 ex.1 ex.2.1 (ex.2.2)
def fX6_twelve_72 (a1 : Int32) (a4 : Int32) (a5 : Int32) (a6 : Int32) (a7 : Int32) (σ : St) : Option (Int32 × St) := bn1 (iter (fun v : Int32 × Int32 × Int32 × St => bX6_twelve_72 a1 a4 v.1 v.2.1 v.2.2.1 v.2.2.2) FU (a5, a6, a7, σ)) (fun ex => xX6_twelve_72 a1 a4 ex)
def fX6_twelve (a1 : Int32) (a2 : Int32) (a3 : Int32) (a4 : Int32) (σ : St) : Option (Int32 × St) := letB (pI σ 0 0 0) (fun σ1 => bn1 (fX6_isRecipe a1 (σ1)) (fun r2 => if r2 = 0 then some ((-1), σ1) else bn1 (fX6_in (a2.toInt64) 0 100) (fun r4 => if r4 = 0 then some ((-1), σ1) else bn1 (fX6_in (a3.toInt64) 0 1000000) (fun r6 => if r6 = 0 then some ((-1), σ1) else bn1 (fX6_in (a4.toInt64) 0 2) (fun r8 => if r8 = 0 then some ((-1), σ1) else letB (pI σ1 0 42 a2) (fun σ10 => letB (pL σ10 0 43 (a3.toInt64)) (fun σ11 => fX6_twelve_72 a1 a4 0 0 0 (σ11))))))))
-- X6_findWeights
def bX6_findWeights_11 (a1 : Int32) (a2 : Int32) (σ : St) : Option ((St) ⊕ (Int32 × Int32 × St)) := if a2 < 0 then some (.inl (σ)) else ckB a2 5 (letB (pA σ 18 a2.toNatClampNeg a1) (fun σ3 => letB (a1 * 9) (fun x4 => letB (a2 + (-1)) (fun x5 => some (.inr (x4, x5, σ3))))))
def xX6_findWeights_11   (ex : St) : Option (St) := some ex
def fX6_findWeights_11 (a1 : Int32) (a2 : Int32) (σ : St) : Option (St) := bn1 (iter (fun v : Int32 × Int32 × St => bX6_findWeights_11 v.1 v.2.1 v.2.2) FU (a1, a2, σ)) (fun ex => xX6_findWeights_11 ex)
def fX6_findWeights (σ : St) : Option (St) := ckB 0 8060 (letB ((gA σ 2 (0 : Int32).toNatClampNeg) - 1) (fun x2 => fX6_findWeights_11 1 x2 (σ)))
-- X6_rowAt
def bX6_rowAt_4 (a1 : Int32) (a2 : Int32) (a3 : Int32) (σ : St) : Option ((Int32) ⊕ (Int32 × Int32)) := ckB 0 8060 (if (gA σ 2 (0 : Int32).toNatClampNeg) ≤ a3 then some (.inl a2) else ckB a3 5 (ckB (a1 + a3) 8060 (letB (a2 + ((gA σ 18 a3.toNatClampNeg) * ((gA σ 2 (a1 + a3).toNatClampNeg) - 1))) (fun x5 => letB (a3 + 1) (fun x6 => some (.inr (x5, x6)))))))
def xX6_rowAt_4 (a1 : Int32) (σ : St) (ex : Int32) : Option (Int32) := some ex
def fX6_rowAt_4 (a1 : Int32) (a2 : Int32) (a3 : Int32) (σ : St) : Option (Int32) := bn1 (iter (fun v : Int32 × Int32 => bX6_rowAt_4 a1 v.1 v.2 σ) FU (a2, a3)) (fun ex => xX6_rowAt_4 a1 σ ex)
def fX6_rowAt (a1 : Int32) (σ : St) : Option (Int32) := fX6_rowAt_4 a1 0 0 (σ)
-- X6_ironOf
def fX6_ironOf (a1 : Int32) (a2 : Int32) (σ : St) : Option (Int32) := ckB a2 5 (ckD (gA σ 18 a2.toNatClampNeg) (some (((a1 / (gA σ 18 a2.toNatClampNeg)) - ((a1 / (gA σ 18 a2.toNatClampNeg)) / 9) * 9) + 1)))
-- X6_reach
def fX6_reach (a1 : Int32) (σ : St) : Option (St) := ckB a1 59049 (if (gA σ 23 a1.toNatClampNeg) = (gI σ 0 56) then some σ else ckB a1 59049 (letB (pA σ 23 a1.toNatClampNeg (gI σ 0 56)) (fun σ4 => ckB (gI σ4 0 58) 59049 (letB (pA σ4 24 (gI σ4 0 58).toNatClampNeg a1) (fun σ6 => letB (pI σ6 0 58 ((gI σ6 0 58) + 1)) (fun σ7 => some σ7))))))
-- X6_moveAll
def fX6_moveAll_57 (a1 : Int32) (a2 : Int32) (a3 : Int32) (a4 : Int32) (t0 : Int32) (σ : St) : Option ((St) ⊕ (Int32 × St)) := if t0 = 0 then letB (a4 + 2) (fun x2 => some (.inr (x2, σ))) else bn1 (fX6_ironOf a1 a3 (σ)) (fun r3 => if r3 < 2 then letB (a4 + 2) (fun x5 => some (.inr (x5, σ))) else bn1 (fX6_ironOf a1 a4 (σ)) (fun r6 => if 9 ≤ r6 then letB (a4 + 2) (fun x8 => some (.inr (x8, σ))) else ckB a3 5 (ckB a4 5 (bn1 (fX6_reach ((a1 - (gA σ 18 a3.toNatClampNeg)) + (gA σ 18 a4.toNatClampNeg)) (σ)) (fun σ12 => letB (a4 + 2) (fun x13 => some (.inr (x13, σ12))))))))
def fX6_moveAll_56 (a1 : Int32) (a2 : Int32) (a3 : Int32) (a4 : Int32) (σ : St) : Option ((St) ⊕ (Int32 × St)) := fX6_moveAll_57 a1 a2 a3 a4 0 (σ)
def fX6_moveAll_52 (a1 : Int32) (a2 : Int32) (a3 : Int32) (a4 : Int32) (σ : St) : Option ((St) ⊕ (Int32 × St)) := fX6_moveAll_57 a1 a2 a3 a4 1 (σ)
def bX6_moveAll_17 (a1 : Int32) (a2 : Int32) (a3 : Int32) (a4 : Int32) (σ : St) : Option ((St) ⊕ (Int32 × St)) := if (a3 + 1) < a4 then some (.inl (σ)) else bn1 (fX6_isCell (a4.toInt64) (σ)) (fun r2 => if r2 = 0 then fX6_moveAll_56 a1 a2 a3 a4 (σ) else bn1 (fX6_isNear a3 a2) (fun r4 => if r4 = 0 then bn1 (fX6_isNear a4 a2) (fun r6 => if r6 = 0 then fX6_moveAll_56 a1 a2 a3 a4 (σ) else fX6_moveAll_52 a1 a2 a3 a4 (σ)) else fX6_moveAll_52 a1 a2 a3 a4 (σ)))
def xX6_moveAll_17 (a1 : Int32) (a2 : Int32) (a3 : Int32)  (ex : St) : Option ((St) ⊕ (Int32 × St)) := letB (a3 + 1) (fun x1 => some (.inr (x1, ex)))
def fX6_moveAll_17 (a1 : Int32) (a2 : Int32) (a3 : Int32) (a4 : Int32) (σ : St) : Option ((St) ⊕ (Int32 × St)) := bn1 (iter (fun v : Int32 × St => bX6_moveAll_17 a1 a2 a3 v.1 v.2) FU (a4, σ)) (fun ex => xX6_moveAll_17 a1 a2 a3 ex)
def bX6_moveAll_2 (a1 : Int32) (a2 : Int32) (a3 : Int32) (σ : St) : Option ((St) ⊕ (Int32 × St)) := ckB 0 8060 (if (gA σ 2 (0 : Int32).toNatClampNeg) ≤ a3 then some (.inl (σ)) else letB (a3 - 1) (fun x3 => fX6_moveAll_17 a1 a2 a3 x3 (σ)))
def xX6_moveAll_2 (a1 : Int32) (a2 : Int32)  (ex : St) : Option (St) := some ex
def fX6_moveAll_2 (a1 : Int32) (a2 : Int32) (a3 : Int32) (σ : St) : Option (St) := bn1 (iter (fun v : Int32 × St => bX6_moveAll_2 a1 a2 v.1 v.2) FU (a3, σ)) (fun ex => xX6_moveAll_2 a1 a2 ex)
def fX6_moveAll (a1 : Int32) (a2 : Int32) (σ : St) : Option (St) := fX6_moveAll_2 a1 a2 0 (σ)
-- X6_findSpread
def fX6_findSpread_66 (a1 : Int32) (a2 : Int32) (a3 : Int32) (a5 : Int32) (σ : St) : Option ((Int32) ⊕ (Int32 × Int32)) := letB (a5 + 1) (fun x1 => some (.inr (1, x1)))
def bX6_findSpread_133 (a2 : Int32) (a3 : Int32) (a6 : Int32) (a7 : Int32) (a8 : Int32) (σ : St) : Option ((St) ⊕ (Int32 × St)) := if a7 ≤ a8 then some (.inl (σ)) else ckB a8 59049 (bn1 (fX6_moveAll (gA σ 24 a8.toNatClampNeg) a2 (σ)) (fun σ4 => letB (a8 + 1) (fun x5 => some (.inr (x5, σ4)))))
def xX6_findSpread_133 (a2 : Int32) (a3 : Int32) (a6 : Int32) (a7 : Int32)  (ex : St) : Option ((St) ⊕ (Int32 × Int32 × St)) := letB (a6 + 1) (fun x1 => some (.inr (a7, x1, ex)))
def fX6_findSpread_133 (a2 : Int32) (a3 : Int32) (a6 : Int32) (a7 : Int32) (a8 : Int32) (σ : St) : Option ((St) ⊕ (Int32 × Int32 × St)) := bn1 (iter (fun v : Int32 × St => bX6_findSpread_133 a2 a3 a6 a7 v.1 v.2) FU (a8, σ)) (fun ex => xX6_findSpread_133 a2 a3 a6 a7 ex)
def bX6_findSpread_117 (a2 : Int32) (a3 : Int32) (a5 : Int32) (a6 : Int32) (σ : St) : Option ((St) ⊕ (Int32 × Int32 × St)) := if a3 ≤ a6 then some (.inl (σ)) else letB (gI σ 0 58) (fun x2 => fX6_findSpread_133 a2 a3 a6 x2 a5 (σ))
def xX6_findSpread_117 (a2 : Int32) (a3 : Int32)  (ex : St) : Option (St) := some ex
def fX6_findSpread_117 (a2 : Int32) (a3 : Int32) (a5 : Int32) (a6 : Int32) (σ : St) : Option (St) := bn1 (iter (fun v : Int32 × Int32 × St => bX6_findSpread_117 a2 a3 v.1 v.2.1 v.2.2) FU (a5, a6, σ)) (fun ex => xX6_findSpread_117 a2 a3 ex)
def fX6_findSpread_108 (a2 : Int32) (a3 : Int32) (t1 : Int32) (σ : St) : Option (St) := bn1 (fX6_reach t1 (σ)) (fun σ2 => fX6_findSpread_117 a2 a3 0 0 (σ2))
def fX6_findSpread_79 (a1 : Int32) (a2 : Int32) (a3 : Int32) (a4 : Int32) (σ : St) : Option (St) := if a4 = 0 then some σ else bn1 (fX6_ironOf a1 a2 (σ)) (fun r2 => if r2 ≤ 1 then fX6_findSpread_108 a2 a3 a1 (σ) else ckB a2 5 (fX6_findSpread_108 a2 a3 (a1 - (gA σ 18 a2.toNatClampNeg)) (σ)))
def bX6_findSpread_21 (a1 : Int32) (a2 : Int32) (a3 : Int32) (a4 : Int32) (a5 : Int32) (σ : St) : Option ((Int32) ⊕ (Int32 × Int32)) := ckB 0 8060 (if (gA σ 2 (0 : Int32).toNatClampNeg) ≤ a5 then some (.inl a4) else if a4 = 0 then bn1 (fX6_isNear a5 a2) (fun r4 => if r4 = 0 then ckB 3 8060 (bn1 (fX6_ironOf a1 a5 (σ)) (fun r8 => if (((gA σ 2 (3 : Int32).toNatClampNeg) >>> (r8 &&& 31)) &&& 1) = 1 then fX6_findSpread_66 a1 a2 a3 a5 (σ) else letB (a5 + 1) (fun x10 => some (.inr (0, x10))))) else letB (a5 + 1) (fun x6 => some (.inr (0, x6)))) else fX6_findSpread_66 a1 a2 a3 a5 (σ))
def xX6_findSpread_21 (a1 : Int32) (a2 : Int32) (a3 : Int32) (σ : St) (ex : Int32) : Option (St) := fX6_findSpread_79 a1 a2 a3 ex (σ)
def fX6_findSpread_21 (a1 : Int32) (a2 : Int32) (a3 : Int32) (a4 : Int32) (a5 : Int32) (σ : St) : Option (St) := bn1 (iter (fun v : Int32 × Int32 => bX6_findSpread_21 a1 a2 a3 v.1 v.2 σ) FU (a4, a5)) (fun ex => xX6_findSpread_21 a1 a2 a3 σ ex)
def fX6_findSpread (a1 : Int32) (a2 : Int32) (a3 : Int32) (σ : St) : Option (St) := letB (pI σ 0 56 ((gI σ 0 56) + 1)) (fun σ1 => letB (pI σ1 0 58 0) (fun σ2 => fX6_findSpread_21 a1 a2 a3 0 0 (σ2)))
-- X6_findLevels
def bX6_findLevels_116 (a2 : Int32) (a3 : Int32) (a4 : Int32) (a5 : Int32) (a6 : Int32) (a7 : Int32) (a8 : Int32) (σ : St) : Option ((St) ⊕ (Int32 × St)) := if (gI σ 0 58) ≤ a8 then some (.inl (σ)) else ckB a8 59049 (letB (gA σ 24 a8.toNatClampNeg) (fun x3 => ckB x3 59049 (ckB x3 59049 (letB (pA σ 19 x3.toNatClampNeg ((gA σ 19 x3.toNatClampNeg) ||| (1 <<< ((a5 + 1) &&& 31)))) (fun σ6 => letB (a8 + 1) (fun x7 => some (.inr (x7, σ6))))))))
def xX6_findLevels_116 (a2 : Int32) (a3 : Int32) (a4 : Int32) (a5 : Int32) (a6 : Int32) (a7 : Int32)  (ex : St) : Option ((St) ⊕ (Int32 × St)) := letB (a7 + 1) (fun x1 => some (.inr (x1, ex)))
def fX6_findLevels_116 (a2 : Int32) (a3 : Int32) (a4 : Int32) (a5 : Int32) (a6 : Int32) (a7 : Int32) (a8 : Int32) (σ : St) : Option ((St) ⊕ (Int32 × St)) := bn1 (iter (fun v : Int32 × St => bX6_findLevels_116 a2 a3 a4 a5 a6 a7 v.1 v.2) FU (a8, σ)) (fun ex => xX6_findLevels_116 a2 a3 a4 a5 a6 a7 ex)
def bX6_findLevels_77 (a2 : Int32) (a3 : Int32) (a4 : Int32) (a5 : Int32) (a6 : Int32) (a7 : Int32) (σ : St) : Option ((St) ⊕ (Int32 × St)) := ckB 0 8060 (if (gA σ 2 (0 : Int32).toNatClampNeg) ≤ a7 then some (.inl (σ)) else ckB a6 59049 (if (((gA σ 19 a6.toNatClampNeg) >>> (a5 &&& 31)) &&& 1) = 1 then bn1 (fX6_findSpread a6 a7 a2 (σ)) (fun σ6 => fX6_findLevels_116 a2 a3 a4 a5 a6 a7 0 (σ6)) else some (.inl (σ))))
def xX6_findLevels_77 (a2 : Int32) (a3 : Int32) (a4 : Int32) (a5 : Int32) (a6 : Int32)  (ex : St) : Option ((St) ⊕ (Int32 × St)) := letB (a6 + 1) (fun x1 => some (.inr (x1, ex)))
def fX6_findLevels_77 (a2 : Int32) (a3 : Int32) (a4 : Int32) (a5 : Int32) (a6 : Int32) (a7 : Int32) (σ : St) : Option ((St) ⊕ (Int32 × St)) := bn1 (iter (fun v : Int32 × St => bX6_findLevels_77 a2 a3 a4 a5 a6 v.1 v.2) FU (a7, σ)) (fun ex => xX6_findLevels_77 a2 a3 a4 a5 a6 ex)
def bX6_findLevels_67 (a2 : Int32) (a3 : Int32) (a4 : Int32) (a5 : Int32) (a6 : Int32) (σ : St) : Option ((St) ⊕ (Int32 × St)) := if 59049 ≤ a6 then some (.inl (σ)) else fX6_findLevels_77 a2 a3 a4 a5 a6 0 (σ)
def xX6_findLevels_67 (a2 : Int32) (a3 : Int32) (a4 : Int32) (a5 : Int32)  (ex : St) : Option (((Int32 × St) ⊕ (St)) ⊕ (Int32 × St)) := letB (a5 + 1) (fun x1 => some (.inr (x1, ex)))
def fX6_findLevels_67 (a2 : Int32) (a3 : Int32) (a4 : Int32) (a5 : Int32) (a6 : Int32) (σ : St) : Option (((Int32 × St) ⊕ (St)) ⊕ (Int32 × St)) := bn1 (iter (fun v : Int32 × St => bX6_findLevels_67 a2 a3 a4 a5 v.1 v.2) FU (a6, σ)) (fun ex => xX6_findLevels_67 a2 a3 a4 a5 ex)
def fX6_findLevels_170 (a3 : Int32) (a4 : Int32) (σ : St) : Option (Int32 × St) := if a3 = (-1) then some ((-1), σ) else ckB a3 59049 (if (((gA σ 19 a3.toNatClampNeg) >>> (a4 &&& 31)) &&& 1) = 1 then some (a4, σ) else some ((-1), σ))
def bX6_findLevels_34 (a2 : Int32) (a3 : Int32) (a4 : Int32) (a5 : Int32) (σ : St) : Option (((Int32 × St) ⊕ (St)) ⊕ (Int32 × St)) := if a4 ≤ a5 then some (.inl (.inr (σ))) else if a3 = (-1) then fX6_findLevels_67 a2 a3 a4 a5 0 (σ) else ckB a3 59049 (if (((gA σ 19 a3.toNatClampNeg) >>> (a5 &&& 31)) &&& 1) = 1 then some (.inl (.inl (a5, σ))) else fX6_findLevels_67 a2 a3 a4 a5 0 (σ))
def xX6_findLevels_34 (a2 : Int32) (a3 : Int32) (a4 : Int32)  (ex : (Int32 × St) ⊕ (St)) : Option (Int32 × St) := match ex with
  | (.inl (b5, σ')) => some (b5, σ')
  | (.inr (σ')) => fX6_findLevels_170 a3 a4 (σ')
def fX6_findLevels_34 (a2 : Int32) (a3 : Int32) (a4 : Int32) (a5 : Int32) (σ : St) : Option (Int32 × St) := bn1 (iter (fun v : Int32 × St => bX6_findLevels_34 a2 a3 a4 v.1 v.2) FU (a5, σ)) (fun ex => xX6_findLevels_34 a2 a3 a4 ex)
def fX6_findLevels_24 (a1 : Int32) (a2 : Int32) (a3 : Int32) (a4 : Int32) (σ : St) : Option (Int32 × St) := ckB a1 59049 (letB (pA σ 19 a1.toNatClampNeg 1) (fun σ2 => fX6_findLevels_34 a2 a3 a4 0 (σ2)))
def bX6_findLevels_3 (a1 : Int32) (a2 : Int32) (a3 : Int32) (a4 : Int32) (a5 : Int32) (σ : St) : Option ((St) ⊕ (Int32 × St)) := if 59049 ≤ a5 then some (.inl (σ)) else ckB a5 59049 (letB (pA σ 19 a5.toNatClampNeg 0) (fun σ3 => letB (a5 + 1) (fun x4 => some (.inr (x4, σ3)))))
def xX6_findLevels_3 (a1 : Int32) (a2 : Int32) (a3 : Int32) (a4 : Int32)  (ex : St) : Option (Int32 × St) := fX6_findLevels_24 a1 a2 a3 a4 (ex)
def fX6_findLevels_3 (a1 : Int32) (a2 : Int32) (a3 : Int32) (a4 : Int32) (a5 : Int32) (σ : St) : Option (Int32 × St) := bn1 (iter (fun v : Int32 × St => bX6_findLevels_3 a1 a2 a3 a4 v.1 v.2) FU (a5, σ)) (fun ex => xX6_findLevels_3 a1 a2 a3 a4 ex)
def fX6_findLevels (a1 : Int32) (a2 : Int32) (a3 : Int32) (a4 : Int32) (σ : St) : Option (Int32 × St) := fX6_findLevels_3 a1 a2 a3 a4 0 (σ)
-- X6_reached
def bX6_reached_69 (a1 : Int32) (a2 : Int32) (a3 : Int32) (σ : St) : Option ((Int32) ⊕ (Int32 × Int32)) := if 59049 ≤ a3 then some (.inl a2) else ckB a3 59049 (letB (a2 + (((gA σ 19 a3.toNatClampNeg) >>> (a1 &&& 31)) &&& 1)) (fun x3 => letB (a3 + 1) (fun x4 => some (.inr (x3, x4)))))
def xX6_reached_69 (a1 : Int32) (σ : St) (ex : Int32) : Option (Int32 × St) := some (ex, σ)
def fX6_reached_69 (a1 : Int32) (a2 : Int32) (a3 : Int32) (σ : St) : Option (Int32 × St) := bn1 (iter (fun v : Int32 × Int32 => bX6_reached_69 a1 v.1 v.2 σ) FU (a2, a3)) (fun ex => xX6_reached_69 a1 σ ex)
def fX6_reached_62 (a1 : Int32) (t1 : Int32) (σ : St) : Option (Int32 × St) := letB (pI σ 0 59 t1) (fun σ1 => fX6_reached_69 a1 0 0 (σ1))
def fX6_reached (a1 : Int32) (σ : St) : Option (Int32 × St) := letB (pI σ 0 0 0) (fun σ1 => bn1 (fX6_in (a1.toInt64) 0 6) (fun r2 => if r2 = 0 then some ((-1), σ1) else if a1 ≤ (gI σ1 0 59) then fX6_reached_69 a1 0 0 (σ1) else bn1 (fX6_findWeights (σ1)) (fun σ6 => bn1 (fX6_rowAt 20 (σ6)) (fun r7 => ckB 10 8060 (bn2 (fX6_findLevels r7 (gA σ6 2 (10 : Int32).toNatClampNeg) (-1) a1 (σ6)) (fun r9 σ10 => if r9 = (-1) then fX6_reached_62 a1 a1 (σ10) else fX6_reached_62 a1 (-1) (σ10)))))))
-- X6_leads_c20
def fX6_leads_c20_51 (a4 : Int32) (a6 : Int32) (σ : St) : Option ((Int32) ⊕ (Int32 × Int32)) := letB (a6 + 1) (fun x1 => some (.inr (1, x1)))
def bX6_leads_c20_19 (a4 : Int32) (a5 : Int32) (a6 : Int32) (σ : St) : Option ((Int32) ⊕ (Int32 × Int32)) := if (gI σ 0 58) ≤ a6 then some (.inl a5) else if a5 = 0 then ckB a6 59049 (ckB (gA σ 24 a6.toNatClampNeg) 59049 (if (((gA σ 20 (gA σ 24 a6.toNatClampNeg).toNatClampNeg) >>> (a4 &&& 31)) &&& 1) = 1 then fX6_leads_c20_51 a4 a6 (σ) else letB (a6 + 1) (fun x6 => some (.inr (0, x6))))) else fX6_leads_c20_51 a4 a6 (σ)
def xX6_leads_c20_19 (a4 : Int32) (σ : St) (ex : Int32) : Option (Int32 × St) := ckZ ex (some (ex, σ))
def fX6_leads_c20_19 (a4 : Int32) (a5 : Int32) (a6 : Int32) (σ : St) : Option (Int32 × St) := bn1 (iter (fun v : Int32 × Int32 => bX6_leads_c20_19 a4 v.1 v.2 σ) FU (a5, a6)) (fun ex => xX6_leads_c20_19 a4 σ ex)
def fX6_leads_c20 (a1 : Int32) (a2 : Int32) (a4 : Int32) (σ : St) : Option (Int32 × St) := ckB 10 8060 (bn1 (fX6_findSpread a1 a2 (gA σ 2 (10 : Int32).toNatClampNeg) (σ)) (fun σ3 => fX6_leads_c20_19 a4 0 0 (σ3)))
-- X6_findToGo
def fX6_findToGo_124 (a2 : Int32) (a3 : Int32) (a4 : Int32) (σ : St) : Option ((St) ⊕ (Int32 × St)) := ckB a3 59049 (if a4 = 0 then ckB a3 59049 (letB (pA σ 20 a3.toNatClampNeg ((gA σ 20 a3.toNatClampNeg) ||| 0)) (fun σ4 => letB (a3 + 1) (fun x5 => some (.inr (x5, σ4))))) else ckB a3 59049 (letB (pA σ 20 a3.toNatClampNeg ((gA σ 20 a3.toNatClampNeg) ||| (1 <<< (a2 &&& 31)))) (fun σ7 => letB (a3 + 1) (fun x8 => some (.inr (x8, σ7))))))
def bX6_findToGo_72 (a2 : Int32) (a3 : Int32) (a4 : Int32) (a5 : Int32) (σ : St) : Option ((Int32 × St) ⊕ (Int32 × Int32 × St)) := ckB 0 8060 (if (gA σ 2 (0 : Int32).toNatClampNeg) ≤ a5 then some (.inl (a4, σ)) else if a4 = 0 then ckB a3 59049 (if (((gA σ 19 a3.toNatClampNeg) >>> (a2 &&& 31)) &&& 1) = 1 then bn2 (fX6_leads_c20 a3 a5 (a2 + 1) (σ)) (fun r6 σ7 => letB (a5 + 1) (fun x8 => some (.inr (r6, x8, σ7)))) else some (.inl (a4, σ))) else some (.inl (a4, σ)))
def xX6_findToGo_72 (a2 : Int32) (a3 : Int32)  (ex : Int32 × St) : Option ((St) ⊕ (Int32 × St)) := fX6_findToGo_124 a2 a3 ex.1 (ex.2)
def fX6_findToGo_72 (a2 : Int32) (a3 : Int32) (a4 : Int32) (a5 : Int32) (σ : St) : Option ((St) ⊕ (Int32 × St)) := bn1 (iter (fun v : Int32 × Int32 × St => bX6_findToGo_72 a2 a3 v.1 v.2.1 v.2.2) FU (a4, a5, σ)) (fun ex => xX6_findToGo_72 a2 a3 ex)
def bX6_findToGo_60 (a2 : Int32) (a3 : Int32) (σ : St) : Option ((St) ⊕ (Int32 × St)) := if 59049 ≤ a3 then some (.inl (σ)) else fX6_findToGo_72 a2 a3 0 0 (σ)
def xX6_findToGo_60 (a2 : Int32)  (ex : St) : Option ((St) ⊕ (Int32 × St)) := letB (a2 + (-1)) (fun x1 => some (.inr (x1, ex)))
def fX6_findToGo_60 (a2 : Int32) (a3 : Int32) (σ : St) : Option ((St) ⊕ (Int32 × St)) := bn1 (iter (fun v : Int32 × St => bX6_findToGo_60 a2 v.1 v.2) FU (a3, σ)) (fun ex => xX6_findToGo_60 a2 ex)
def bX6_findToGo_54 (a2 : Int32) (σ : St) : Option ((St) ⊕ (Int32 × St)) := if a2 < 0 then some (.inl (σ)) else fX6_findToGo_60 a2 0 (σ)
def xX6_findToGo_54   (ex : St) : Option (St) := some ex
def fX6_findToGo_54 (a2 : Int32) (σ : St) : Option (St) := bn1 (iter (fun v : Int32 × St => bX6_findToGo_54 v.1 v.2) FU (a2, σ)) (fun ex => xX6_findToGo_54 ex)
def fX6_findToGo_35 (a1 : Int32) (σ : St) : Option (St) := ckB a1 59049 (letB (pA σ 20 a1.toNatClampNeg (1 <<< ((gI σ 0 60) &&& 31))) (fun σ2 => letB ((gI σ2 0 60) - 1) (fun x3 => fX6_findToGo_54 x3 (σ2))))
def bX6_findToGo_2 (a1 : Int32) (a2 : Int32) (σ : St) : Option ((St) ⊕ (Int32 × St)) := if 59049 ≤ a2 then some (.inl (σ)) else ckB a2 59049 (letB (pA σ 20 a2.toNatClampNeg 0) (fun σ3 => ckB a2 59049 (letB (pA σ3 21 a2.toNatClampNeg 0) (fun σ5 => ckB a2 59049 (letB (pA σ5 22 a2.toNatClampNeg 0) (fun σ7 => letB (a2 + 1) (fun x8 => some (.inr (x8, σ7)))))))))
def xX6_findToGo_2 (a1 : Int32)  (ex : St) : Option (St) := fX6_findToGo_35 a1 (ex)
def fX6_findToGo_2 (a1 : Int32) (a2 : Int32) (σ : St) : Option (St) := bn1 (iter (fun v : Int32 × St => bX6_findToGo_2 a1 v.1 v.2) FU (a2, σ)) (fun ex => xX6_findToGo_2 a1 ex)
def fX6_findToGo (a1 : Int32) (σ : St) : Option (St) := fX6_findToGo_2 a1 0 (σ)
-- X6_chooseCell
def bX6_chooseCell_22 (a1 : Int32) (a2 : Int32) (a3 : Int32) (a4 : Int32) (σ : St) : Option ((Int32 × St) ⊕ (Int32 × Int32 × St)) := if 59049 ≤ a4 then some (.inl (a2, σ)) else if a2 = (-1) then ckB a4 59049 (if (((gA σ 21 a4.toNatClampNeg) >>> (a1 &&& 31)) &&& 1) = 1 then bn2 (fX6_leads_c20 a4 a3 (a1 + 1) (σ)) (fun r6 σ7 => if r6 = 0 then letB (a4 + 1) (fun x9 => some (.inr ((-1), x9, σ7))) else letB (a4 + 1) (fun x10 => some (.inr (a3, x10, σ7)))) else letB (a4 + 1) (fun x5 => some (.inr ((-1), x5, σ)))) else some (.inl (a2, σ))
def xX6_chooseCell_22 (a1 : Int32) (a3 : Int32)  (ex : Int32 × St) : Option ((Int32 × St) ⊕ (Int32 × Int32 × St)) := letB (a3 + 1) (fun x1 => some (.inr (ex.1, x1, ex.2)))
def fX6_chooseCell_22 (a1 : Int32) (a2 : Int32) (a3 : Int32) (a4 : Int32) (σ : St) : Option ((Int32 × St) ⊕ (Int32 × Int32 × St)) := bn1 (iter (fun v : Int32 × Int32 × St => bX6_chooseCell_22 a1 v.1 a3 v.2.1 v.2.2) FU (a2, a4, σ)) (fun ex => xX6_chooseCell_22 a1 a3 ex)
def bX6_chooseCell_129 (a1 : Int32) (a2 : Int32) (a3 : Int32) (a4 : Int32) (σ : St) : Option ((St) ⊕ (Int32 × St)) := if (gI σ 0 58) ≤ a4 then some (.inl (σ)) else ckB a4 59049 (letB (gA σ 24 a4.toNatClampNeg) (fun x3 => ckB x3 59049 (ckB a4 59049 (ckB (gA σ 24 a4.toNatClampNeg) 59049 (if (((gA σ 20 (gA σ 24 a4.toNatClampNeg).toNatClampNeg) >>> ((a1 + 1) &&& 31)) &&& 1) = 1 then ckB x3 59049 (letB (pA σ 21 x3.toNatClampNeg ((gA σ 21 x3.toNatClampNeg) ||| (1 <<< ((a1 + 1) &&& 31)))) (fun σ12 => letB (a4 + 1) (fun x13 => some (.inr (x13, σ12))))) else ckB x3 59049 (letB (pA σ 21 x3.toNatClampNeg ((gA σ 21 x3.toNatClampNeg) ||| 0)) (fun σ9 => letB (a4 + 1) (fun x10 => some (.inr (x10, σ9))))))))))
def xX6_chooseCell_129 (a1 : Int32) (a2 : Int32) (a3 : Int32)  (ex : St) : Option ((St) ⊕ (Int32 × St)) := letB (a3 + 1) (fun x1 => some (.inr (x1, ex)))
def fX6_chooseCell_129 (a1 : Int32) (a2 : Int32) (a3 : Int32) (a4 : Int32) (σ : St) : Option ((St) ⊕ (Int32 × St)) := bn1 (iter (fun v : Int32 × St => bX6_chooseCell_129 a1 a2 a3 v.1 v.2) FU (a4, σ)) (fun ex => xX6_chooseCell_129 a1 a2 a3 ex)
def bX6_chooseCell_93 (a1 : Int32) (a2 : Int32) (a3 : Int32) (σ : St) : Option ((St) ⊕ (Int32 × St)) := if 59049 ≤ a3 then some (.inl (σ)) else ckB a3 59049 (if (((gA σ 21 a3.toNatClampNeg) >>> (a1 &&& 31)) &&& 1) = 1 then ckB 10 8060 (bn1 (fX6_findSpread a3 a2 (gA σ 2 (10 : Int32).toNatClampNeg) (σ)) (fun σ7 => fX6_chooseCell_129 a1 a2 a3 0 (σ7))) else letB (a3 + 1) (fun x4 => some (.inr (x4, σ))))
def xX6_chooseCell_93 (a1 : Int32) (a2 : Int32)  (ex : St) : Option (St) := some ex
def fX6_chooseCell_93 (a1 : Int32) (a2 : Int32) (a3 : Int32) (σ : St) : Option (St) := bn1 (iter (fun v : Int32 × St => bX6_chooseCell_93 a1 a2 v.1 v.2) FU (a3, σ)) (fun ex => xX6_chooseCell_93 a1 a2 ex)
def fX6_chooseCell_84 (a1 : Int32) (a2 : Int32) (σ : St) : Option (St) := ckB a1 7 (letB (pA σ 25 a1.toNatClampNeg a2) (fun σ2 => fX6_chooseCell_93 a1 a2 0 (σ2)))
def bX6_chooseCell_4 (a1 : Int32) (a2 : Int32) (a3 : Int32) (σ : St) : Option ((Int32 × St) ⊕ (Int32 × Int32 × St)) := ckB 0 8060 (if (gA σ 2 (0 : Int32).toNatClampNeg) ≤ a3 then some (.inl (a2, σ)) else if a2 = (-1) then fX6_chooseCell_22 a1 a2 a3 0 (σ) else some (.inl (a2, σ)))
def xX6_chooseCell_4 (a1 : Int32)  (ex : Int32 × St) : Option (St) := fX6_chooseCell_84 a1 ex.1 (ex.2)
def fX6_chooseCell_4 (a1 : Int32) (a2 : Int32) (a3 : Int32) (σ : St) : Option (St) := bn1 (iter (fun v : Int32 × Int32 × St => bX6_chooseCell_4 a1 v.1 v.2.1 v.2.2) FU (a2, a3, σ)) (fun ex => xX6_chooseCell_4 a1 ex)
def fX6_chooseCell (a1 : Int32) (σ : St) : Option (St) := fX6_chooseCell_4 a1 (-1) 0 (σ)
-- X6_leads_c22
def fX6_leads_c22_51 (a4 : Int32) (a6 : Int32) (σ : St) : Option ((Int32) ⊕ (Int32 × Int32)) := letB (a6 + 1) (fun x1 => some (.inr (1, x1)))
def bX6_leads_c22_19 (a4 : Int32) (a5 : Int32) (a6 : Int32) (σ : St) : Option ((Int32) ⊕ (Int32 × Int32)) := if (gI σ 0 58) ≤ a6 then some (.inl a5) else if a5 = 0 then ckB a6 59049 (ckB (gA σ 24 a6.toNatClampNeg) 59049 (if (((gA σ 22 (gA σ 24 a6.toNatClampNeg).toNatClampNeg) >>> (a4 &&& 31)) &&& 1) = 1 then fX6_leads_c22_51 a4 a6 (σ) else letB (a6 + 1) (fun x6 => some (.inr (0, x6))))) else fX6_leads_c22_51 a4 a6 (σ)
def xX6_leads_c22_19 (a4 : Int32) (σ : St) (ex : Int32) : Option (Int32 × St) := ckZ ex (some (ex, σ))
def fX6_leads_c22_19 (a4 : Int32) (a5 : Int32) (a6 : Int32) (σ : St) : Option (Int32 × St) := bn1 (iter (fun v : Int32 × Int32 => bX6_leads_c22_19 a4 v.1 v.2 σ) FU (a5, a6)) (fun ex => xX6_leads_c22_19 a4 σ ex)
def fX6_leads_c22 (a1 : Int32) (a2 : Int32) (a4 : Int32) (σ : St) : Option (Int32 × St) := ckB 10 8060 (bn1 (fX6_findSpread a1 a2 (gA σ 2 (10 : Int32).toNatClampNeg) (σ)) (fun σ3 => fX6_leads_c22_19 a4 0 0 (σ3)))
-- X6_findPlan
def fX6_findPlan_178 (a1 : Int32) (a3 : Int32) (a4 : Int32) (t1 : Int32) (t2 : Int32) (σ : St) : Option ((St) ⊕ (Int32 × St)) := ckB t1 59049 (letB (pA σ 22 t1.toNatClampNeg (t2 ||| 0)) (fun σ2 => letB (a4 + 1) (fun x3 => some (.inr (x3, σ2)))))
def bX6_findPlan_120 (a1 : Int32) (a3 : Int32) (a4 : Int32) (σ : St) : Option ((St) ⊕ (Int32 × St)) := if 59049 ≤ a4 then some (.inl (σ)) else ckB a4 59049 (ckB a4 59049 (if (((gA σ 21 a4.toNatClampNeg) >>> (a3 &&& 31)) &&& 1) = 1 then ckB a3 7 (bn2 (fX6_leads_c22 a4 (gA σ 25 a3.toNatClampNeg) (a3 + 1) (σ)) (fun r6 σ7 => if r6 = 0 then fX6_findPlan_178 a1 a3 a4 a4 (gA σ 22 a4.toNatClampNeg) (σ7) else ckB a4 59049 (letB (pA σ7 22 a4.toNatClampNeg ((gA σ 22 a4.toNatClampNeg) ||| (1 <<< (a3 &&& 31)))) (fun σ10 => letB (a4 + 1) (fun x11 => some (.inr (x11, σ10))))))) else fX6_findPlan_178 a1 a3 a4 a4 (gA σ 22 a4.toNatClampNeg) (σ)))
def xX6_findPlan_120 (a1 : Int32) (a3 : Int32)  (ex : St) : Option ((St) ⊕ (Int32 × St)) := letB (a3 + (-1)) (fun x1 => some (.inr (x1, ex)))
def fX6_findPlan_120 (a1 : Int32) (a3 : Int32) (a4 : Int32) (σ : St) : Option ((St) ⊕ (Int32 × St)) := bn1 (iter (fun v : Int32 × St => bX6_findPlan_120 a1 a3 v.1 v.2) FU (a4, σ)) (fun ex => xX6_findPlan_120 a1 a3 ex)
def fX6_findPlan_288 (a3 : Int32) (a5 : Int32) (σ : St) : Option ((Int32) ⊕ (Int32 × Int32)) := ckB a5 59049 (letB (gA σ 24 a5.toNatClampNeg) (fun x2 => letB (a5 + 1) (fun x3 => some (.inr (x2, x3)))))
def fX6_findPlan_308 (a3 : Int32) (a4 : Int32) (σ : St) : Option ((St) ⊕ (Int32 × St)) := ckB (a3 + 1) 7 (letB (pA σ 26 (a3 + 1).toNatClampNeg a4) (fun σ2 => letB (a3 + 1) (fun x3 => some (.inr (x3, σ2)))))
def bX6_findPlan_239 (a3 : Int32) (a4 : Int32) (a5 : Int32) (σ : St) : Option ((Int32) ⊕ (Int32 × Int32)) := if (gI σ 0 58) ≤ a5 then some (.inl a4) else ckB a5 59049 (ckB (gA σ 24 a5.toNatClampNeg) 59049 (if (((gA σ 22 (gA σ 24 a5.toNatClampNeg).toNatClampNeg) >>> ((a3 + 1) &&& 31)) &&& 1) = 1 then if a4 = (-1) then fX6_findPlan_288 a3 a5 (σ) else ckB a5 59049 (if a4 ≤ (gA σ 24 a5.toNatClampNeg) then letB (a5 + 1) (fun x9 => some (.inr (a4, x9))) else fX6_findPlan_288 a3 a5 (σ)) else letB (a5 + 1) (fun x5 => some (.inr (a4, x5)))))
def xX6_findPlan_239 (a3 : Int32) (σ : St) (ex : Int32) : Option ((St) ⊕ (Int32 × St)) := fX6_findPlan_308 a3 ex (σ)
def fX6_findPlan_239 (a3 : Int32) (a4 : Int32) (a5 : Int32) (σ : St) : Option ((St) ⊕ (Int32 × St)) := bn1 (iter (fun v : Int32 × Int32 => bX6_findPlan_239 a3 v.1 v.2 σ) FU (a4, a5)) (fun ex => xX6_findPlan_239 a3 σ ex)
def bX6_findPlan_202 (a3 : Int32) (σ : St) : Option ((St) ⊕ (Int32 × St)) := if (gI σ 0 60) ≤ a3 then some (.inl (σ)) else ckB a3 7 (ckB a3 7 (ckB 10 8060 (bn1 (fX6_findSpread (gA σ 26 a3.toNatClampNeg) (gA σ 25 a3.toNatClampNeg) (gA σ 2 (10 : Int32).toNatClampNeg) (σ)) (fun σ6 => fX6_findPlan_239 a3 (-1) 0 (σ6)))))
def xX6_findPlan_202   (ex : St) : Option (St) := some ex
def fX6_findPlan_202 (a3 : Int32) (σ : St) : Option (St) := bn1 (iter (fun v : Int32 × St => bX6_findPlan_202 v.1 v.2) FU (a3, σ)) (fun ex => xX6_findPlan_202 ex)
def fX6_findPlan_193 (a1 : Int32) (σ : St) : Option (St) := ckB 0 7 (letB (pA σ 26 (0 : Int32).toNatClampNeg a1) (fun σ2 => fX6_findPlan_202 0 (σ2)))
def bX6_findPlan_113 (a1 : Int32) (a3 : Int32) (σ : St) : Option ((St) ⊕ (Int32 × St)) := if a3 < 0 then some (.inl (σ)) else fX6_findPlan_120 a1 a3 0 (σ)
def xX6_findPlan_113 (a1 : Int32)  (ex : St) : Option (St) := fX6_findPlan_193 a1 (ex)
def fX6_findPlan_113 (a1 : Int32) (a3 : Int32) (σ : St) : Option (St) := bn1 (iter (fun v : Int32 × St => bX6_findPlan_113 a1 v.1 v.2) FU (a3, σ)) (fun ex => xX6_findPlan_113 a1 ex)
def fX6_findPlan_94 (a1 : Int32) (a2 : Int32) (σ : St) : Option (St) := ckB a2 59049 (letB (pA σ 22 a2.toNatClampNeg (1 <<< ((gI σ 0 60) &&& 31))) (fun σ2 => letB ((gI σ2 0 60) - 1) (fun x3 => fX6_findPlan_113 a1 x3 (σ2))))
def bX6_findPlan_75 (a1 : Int32) (a2 : Int32) (a3 : Int32) (σ : St) : Option ((St) ⊕ (Int32 × St)) := if (gI σ 0 60) ≤ a3 then some (.inl (σ)) else bn1 (fX6_chooseCell a3 (σ)) (fun σ3 => letB (a3 + 1) (fun x4 => some (.inr (x4, σ3))))
def xX6_findPlan_75 (a1 : Int32) (a2 : Int32)  (ex : St) : Option (St) := fX6_findPlan_94 a1 a2 (ex)
def fX6_findPlan_75 (a1 : Int32) (a2 : Int32) (a3 : Int32) (σ : St) : Option (St) := bn1 (iter (fun v : Int32 × St => bX6_findPlan_75 a1 a2 v.1 v.2) FU (a3, σ)) (fun ex => xX6_findPlan_75 a1 a2 ex)
def fX6_findPlan (σ : St) : Option (St) := if (gI σ 0 60) = (-2) then bn1 (fX6_findWeights (σ)) (fun σ3 => letB (pI σ3 0 59 (-1)) (fun σ4 => bn1 (fX6_rowAt 20 (σ4)) (fun r5 => bn1 (fX6_rowAt 30 (σ4)) (fun r6 => ckB 10 8060 (bn2 (fX6_findLevels r5 (gA σ4 2 (10 : Int32).toNatClampNeg) r6 6 (σ4)) (fun r8 σ9 => letB (pI σ9 0 60 r8) (fun σ10 => if (gI σ10 0 60) = (-1) then some σ10 else bn1 (fX6_findToGo r6 (σ10)) (fun σ13 => ckB r5 59049 (letB (pA σ13 21 r5.toNatClampNeg 1) (fun σ15 => fX6_findPlan_75 r5 r6 0 (σ15))))))))))) else some σ
-- X6_heats
def fX6_heats (σ : St) : Option (Int32 × St) := letB (pI σ 0 0 0) (fun σ1 => bn1 (fX6_findPlan (σ1)) (fun σ3 => some (gI σ3 0 60, σ3)))
-- X6_plan
def fX6_plan_41 (a1 : Int32) (a2 : Int32) (σ : St) : Option (Int32 × St) := if a2 = (-1) then ckB a1 7 (some (gA σ 25 a1.toNatClampNeg, σ)) else ckB (a1 + 1) 7 (bn1 (fX6_ironOf (gA σ 26 (a1 + 1).toNatClampNeg) a2 (σ)) (fun r3 => some (r3, σ)))
def fX6_plan (a1 : Int32) (a2 : Int32) (σ : St) : Option (Int32 × St) := letB (pI σ 0 0 0) (fun σ1 => bn1 (fX6_findPlan (σ1)) (fun σ3 => bn1 (fX6_in (a1.toInt64) 0 (((gI σ3 0 60).toInt64) - 1)) (fun r4 => if r4 = 0 then some ((-1), σ3) else if a2 = (-1) then fX6_plan_41 a1 a2 (σ3) else bn1 (fX6_isCell (a2.toInt64) (σ3)) (fun r7 => if r7 = 0 then some ((-1), σ3) else fX6_plan_41 a1 a2 (σ3)))))
-- X6_even
def fX6_even_100 (a1 : Int32) (a2 : Int32) (a3 : Int32) (a4 : Int32) (σ : St) : Option (((Int32 × St) ⊕ (St)) ⊕ (Int32 × St)) := ckB 0 8060 (letB ((a3 * (gA σ 2 (0 : Int32).toNatClampNeg)) - a2) (fun x2 => bn1 (fX6_in (x2.toInt64) 0 6) (fun r3 => if r3 = 0 then letB (a3 + 1) (fun x5 => some (.inr (x5, σ))) else ckB 10 8060 (bn2 (fX6_findLevels a4 (gA σ 2 (10 : Int32).toNatClampNeg) a1 6 (σ)) (fun r7 σ8 => if r7 = (-1) then letB (a3 + 1) (fun x10 => some (.inr (x10, σ8))) else some (.inl (.inl (a3, σ8))))))))
def bX6_even_67 (a1 : Int32) (a2 : Int32) (a3 : Int32) (a4 : Int32) (a5 : Int32) (σ : St) : Option ((Int32) ⊕ (Int32 × Int32)) := ckB 0 8060 (if (gA σ 2 (0 : Int32).toNatClampNeg) ≤ a5 then some (.inl a4) else ckB a5 5 (letB (a4 + ((gA σ 18 a5.toNatClampNeg) * (a3 - 1))) (fun x4 => letB (a5 + 1) (fun x5 => some (.inr (x4, x5))))))
def xX6_even_67 (a1 : Int32) (a2 : Int32) (a3 : Int32) (σ : St) (ex : Int32) : Option (((Int32 × St) ⊕ (St)) ⊕ (Int32 × St)) := fX6_even_100 a1 a2 a3 ex (σ)
def fX6_even_67 (a1 : Int32) (a2 : Int32) (a3 : Int32) (a4 : Int32) (a5 : Int32) (σ : St) : Option (((Int32 × St) ⊕ (St)) ⊕ (Int32 × St)) := bn1 (iter (fun v : Int32 × Int32 => bX6_even_67 a1 a2 a3 v.1 v.2 σ) FU (a4, a5)) (fun ex => xX6_even_67 a1 a2 a3 σ ex)
def bX6_even_55 (a1 : Int32) (a2 : Int32) (a3 : Int32) (σ : St) : Option (((Int32 × St) ⊕ (St)) ⊕ (Int32 × St)) := if 9 < a3 then some (.inl (.inr (σ))) else fX6_even_67 a1 a2 a3 0 0 (σ)
def xX6_even_55 (a1 : Int32) (a2 : Int32)  (ex : (Int32 × St) ⊕ (St)) : Option (Int32 × St) := match ex with
  | (.inl (b3, σ')) => some (b3, σ')
  | (.inr (σ')) => some ((-1), σ')
def fX6_even_55 (a1 : Int32) (a2 : Int32) (a3 : Int32) (σ : St) : Option (Int32 × St) := bn1 (iter (fun v : Int32 × St => bX6_even_55 a1 a2 v.1 v.2) FU (a3, σ)) (fun ex => xX6_even_55 a1 a2 ex)
def bX6_even_25 (a1 : Int32) (a2 : Int32) (a3 : Int32) (σ : St) : Option ((Int32) ⊕ (Int32 × Int32)) := ckB 0 8060 (if (gA σ 2 (0 : Int32).toNatClampNeg) ≤ a3 then some (.inl a2) else ckB (30 + a3) 8060 (letB (a2 + (gA σ 2 (30 + a3).toNatClampNeg)) (fun x4 => letB (a3 + 1) (fun x5 => some (.inr (x4, x5))))))
def xX6_even_25 (a1 : Int32) (σ : St) (ex : Int32) : Option (Int32 × St) := fX6_even_55 a1 ex 1 (σ)
def fX6_even_25 (a1 : Int32) (a2 : Int32) (a3 : Int32) (σ : St) : Option (Int32 × St) := bn1 (iter (fun v : Int32 × Int32 => bX6_even_25 a1 v.1 v.2 σ) FU (a2, a3)) (fun ex => xX6_even_25 a1 σ ex)
def fX6_even (σ : St) : Option (Int32 × St) := letB (pI σ 0 0 0) (fun σ1 => bn1 (fX6_findWeights (σ1)) (fun σ3 => letB (pI σ3 0 59 (-1)) (fun σ4 => bn1 (fX6_rowAt 30 (σ4)) (fun r5 => fX6_even_25 r5 0 0 (σ4)))))
-- X6_striker
def fX6_striker (σ : St) : Option (Int32 × St) := letB (pI σ 0 0 0) (fun σ1 => bn1 (fX6_findPlan (σ1)) (fun σ3 => if (gI σ3 0 60) = (-1) then some ((-1), σ3) else letB (pI σ3 0 59 (-1)) (fun σ5 => bn1 (fX6_rowAt 20 (σ5)) (fun r6 => ckB 10 8060 (bn1 (fX6_rowAt 30 (σ5)) (fun r8 => bn2 (fX6_findLevels r6 ((gA σ5 2 (10 : Int32).toNatClampNeg) + 1) r8 6 (σ5)) (fun r9 σ10 => if r9 = (-1) then some ((-1), σ10) else some ((gI σ10 0 60) - r9, σ10))))))))
-- X6_piece
def fX6_piece (a1 : Int32) (a2 : Int32) (σ : St) : Option (Int32 × St) := letB (pI σ 0 0 0) (fun σ1 => bn1 (fX6_in (a1.toInt64) 1 200) (fun r2 => if r2 = 0 then bn2 (fX6_tell (-1) (σ1)) (fun r25 σ26 => some (r25, σ26)) else ckB 2 8060 (bn1 (fX6_in (a2.toInt64) (-1) (((gA σ1 2 (2 : Int32).toNatClampNeg).toInt64) - 1)) (fun r5 => if r5 = 0 then bn2 (fX6_tell (-2) (σ1)) (fun r23 σ24 => some (r23, σ24)) else ckB 2 8060 (if (gA σ1 2 (2 : Int32).toNatClampNeg) = 8 then bn2 (fX6_tell (-5) (σ1)) (fun r21 σ22 => some (r21, σ22)) else ckB 2 8060 (ckB (40 + (2 * (gA σ1 2 (2 : Int32).toNatClampNeg))) 8060 (letB (pA σ1 2 (40 + (2 * (gA σ1 2 (2 : Int32).toNatClampNeg))).toNatClampNeg a1) (fun σ11 => ckB 2 8060 (ckB ((40 + (2 * (gA σ11 2 (2 : Int32).toNatClampNeg))) + 1) 8060 (letB (pA σ11 2 ((40 + (2 * (gA σ11 2 (2 : Int32).toNatClampNeg))) + 1).toNatClampNeg a2) (fun σ14 => ckB 2 8060 (ckB 2 8060 (letB (pA σ14 2 (2 : Int32).toNatClampNeg ((gA σ14 2 (2 : Int32).toNatClampNeg) + 1)) (fun σ17 => ckB 2 8060 (bn2 (fX6_tell ((gA σ17 2 (2 : Int32).toNatClampNeg) - 1) (σ17)) (fun r19 σ20 => some (r19, σ20)))))))))))))))))
-- X6_doneBy
def fX6_doneBy_196 (a1 : Int32) (a2 : Int32) (a3 : Int32) (a4 : Int32) (a5 : Int32) (a7 : Int32) (t1 : Int32) (t2 : Int32) (σ : St) : Option (((St) ⊕ (Int32 × St)) ⊕ (Int32 × Int32 × Int32 × St)) := ckB t1 8 (letB (pA σ 28 t1.toNatClampNeg t2) (fun σ2 => ckB a5 8 (ckB (40 + (2 * a5)) 8060 (ckB a7 3 (letB (pA σ2 29 a7.toNatClampNeg ((gA σ2 28 a5.toNatClampNeg) + (gA σ2 2 (40 + (2 * a5)).toNatClampNeg))) (fun σ6 => ckB a7 3 (if (gA σ6 29 a7.toNatClampNeg) ≤ a3 then letB (a4 + 1) (fun x9 => some (.inr (a2, a3, x9, σ6))) else ckB a7 3 (letB (gA σ6 29 a7.toNatClampNeg) (fun x11 => letB (a4 + 1) (fun x12 => some (.inr (a2, x11, x12, σ6))))))))))))
def fX6_doneBy_164 (a1 : Int32) (a2 : Int32) (a3 : Int32) (a4 : Int32) (a5 : Int32) (a7 : Int32) (t0 : Int32) (σ : St) : Option (((St) ⊕ (Int32 × St)) ⊕ (Int32 × Int32 × Int32 × St)) := ckB a7 3 (if (gA σ 29 a7.toNatClampNeg) ≤ t0 then fX6_doneBy_196 a1 a2 a3 a4 a5 a7 a5 t0 (σ) else ckB a7 3 (fX6_doneBy_196 a1 a2 a3 a4 a5 a7 a5 (gA σ 29 a7.toNatClampNeg) (σ)))
def fX6_doneBy_134 (a1 : Int32) (a2 : Int32) (a3 : Int32) (a4 : Int32) (a5 : Int32) (a6 : Int32) (a7 : Int32) (σ : St) : Option (((St) ⊕ (Int32 × St)) ⊕ (Int32 × Int32 × Int32 × St)) := if a6 = (-1) then fX6_doneBy_164 a1 a2 a3 a4 a5 a7 0 (σ) else ckB a6 8 (ckB (40 + (2 * a6)) 8060 (fX6_doneBy_164 a1 a2 a3 a4 a5 a7 ((gA σ 28 a6.toNatClampNeg) + (gA σ 2 (40 + (2 * a6)).toNatClampNeg)) (σ)))
def bX6_doneBy_96 (a1 : Int32) (a2 : Int32) (a3 : Int32) (a4 : Int32) (a5 : Int32) (a6 : Int32) (a7 : Int32) (a8 : Int32) (σ : St) : Option ((Int32) ⊕ (Int32 × Int32)) := if a1 ≤ a8 then some (.inl a7) else ckB a8 3 (ckB a7 3 (if (gA σ 29 a7.toNatClampNeg) ≤ (gA σ 29 a8.toNatClampNeg) then letB (a8 + 1) (fun x5 => some (.inr (a7, x5))) else letB (a8 + 1) (fun x6 => some (.inr (a8, x6)))))
def xX6_doneBy_96 (a1 : Int32) (a2 : Int32) (a3 : Int32) (a4 : Int32) (a5 : Int32) (a6 : Int32) (σ : St) (ex : Int32) : Option (((St) ⊕ (Int32 × St)) ⊕ (Int32 × Int32 × Int32 × St)) := fX6_doneBy_134 a1 a2 a3 a4 a5 a6 ex (σ)
def fX6_doneBy_96 (a1 : Int32) (a2 : Int32) (a3 : Int32) (a4 : Int32) (a5 : Int32) (a6 : Int32) (a7 : Int32) (a8 : Int32) (σ : St) : Option (((St) ⊕ (Int32 × St)) ⊕ (Int32 × Int32 × Int32 × St)) := bn1 (iter (fun v : Int32 × Int32 => bX6_doneBy_96 a1 a2 a3 a4 a5 a6 v.1 v.2 σ) FU (a7, a8)) (fun ex => xX6_doneBy_96 a1 a2 a3 a4 a5 a6 σ ex)
def fX6_doneBy_83 (a1 : Int32) (a2 : Int32) (a3 : Int32) (a4 : Int32) (a5 : Int32) (a6 : Int32) (σ : St) : Option (((St) ⊕ (Int32 × St)) ⊕ (Int32 × Int32 × Int32 × St)) := letB (a2 ||| (1 <<< (a5 &&& 31))) (fun x1 => fX6_doneBy_96 a1 x1 a3 a4 a5 a6 0 1 (σ))
def bX6_doneBy_30 (a1 : Int32) (a2 : Int32) (a3 : Int32) (a4 : Int32) (σ : St) : Option (((St) ⊕ (Int32 × St)) ⊕ (Int32 × Int32 × Int32 × St)) := ckB 2 8060 (if (gA σ 2 (2 : Int32).toNatClampNeg) ≤ a4 then some (.inl (.inr (a3, σ))) else ckB a4 8 (letB (gA σ 27 a4.toNatClampNeg) (fun x4 => ckB ((40 + (2 * x4)) + 1) 8060 (letB (gA σ 2 ((40 + (2 * x4)) + 1).toNatClampNeg) (fun x6 => if x6 = (-1) then fX6_doneBy_83 a1 a2 a3 a4 x4 x6 (σ) else if ((a2 >>> (x6 &&& 31)) &&& 1) = 0 then some (.inl (.inl (σ))) else fX6_doneBy_83 a1 a2 a3 a4 x4 x6 (σ))))))
def xX6_doneBy_30 (a1 : Int32)  (ex : (St) ⊕ (Int32 × St)) : Option (Int32 × St) := match ex with
  | (.inl (σ')) => some ((-1), σ')
  | (.inr (b3, σ')) => some (b3, σ')
def fX6_doneBy_30 (a1 : Int32) (a2 : Int32) (a3 : Int32) (a4 : Int32) (σ : St) : Option (Int32 × St) := bn1 (iter (fun v : Int32 × Int32 × Int32 × St => bX6_doneBy_30 a1 v.1 v.2.1 v.2.2.1 v.2.2.2) FU (a2, a3, a4, σ)) (fun ex => xX6_doneBy_30 a1 ex)
def bX6_doneBy_7 (a1 : Int32) (a2 : Int32) (a3 : Int32) (a4 : Int32) (σ : St) : Option ((St) ⊕ (Int32 × St)) := if 3 ≤ a4 then some (.inl (σ)) else ckB a4 3 (letB (pA σ 29 a4.toNatClampNeg 0) (fun σ3 => letB (a4 + 1) (fun x4 => some (.inr (x4, σ3)))))
def xX6_doneBy_7 (a1 : Int32) (a2 : Int32) (a3 : Int32)  (ex : St) : Option (Int32 × St) := fX6_doneBy_30 a1 a2 a3 0 (ex)
def fX6_doneBy_7 (a1 : Int32) (a2 : Int32) (a3 : Int32) (a4 : Int32) (σ : St) : Option (Int32 × St) := bn1 (iter (fun v : Int32 × St => bX6_doneBy_7 a1 a2 a3 v.1 v.2) FU (a4, σ)) (fun ex => xX6_doneBy_7 a1 a2 a3 ex)
def fX6_doneBy (a1 : Int32) (σ : St) : Option (Int32 × St) := fX6_doneBy_7 a1 0 0 0 (σ)
-- X6_exchange
def fX6_exchange (a1 : Int32) (a2 : Int32) (σ : St) : Option (St) := ckB a1 8 (letB (gA σ 27 a1.toNatClampNeg) (fun x2 => ckB a2 8 (ckB a1 8 (letB (pA σ 27 a1.toNatClampNeg (gA σ 27 a2.toNatClampNeg)) (fun σ5 => ckB a2 8 (letB (pA σ5 27 a2.toNatClampNeg x2) (fun σ7 => some σ7)))))))
-- X6_nextOrder
def bX6_nextOrder_85 (a4 : Int32) (a5 : Int32) (σ : St) : Option ((St) ⊕ (Int32 × Int32 × St)) := if a5 ≤ a4 then some (.inl (σ)) else bn1 (fX6_exchange a4 a5 (σ)) (fun σ3 => letB (a4 + 1) (fun x4 => letB (a5 + (-1)) (fun x5 => some (.inr (x4, x5, σ3)))))
def xX6_nextOrder_85   (ex : St) : Option (Int32 × St) := some (1, ex)
def fX6_nextOrder_85 (a4 : Int32) (a5 : Int32) (σ : St) : Option (Int32 × St) := bn1 (iter (fun v : Int32 × Int32 × St => bX6_nextOrder_85 v.1 v.2.1 v.2.2) FU (a4, a5, σ)) (fun ex => xX6_nextOrder_85 ex)
def fX6_nextOrder_69 (a1 : Int32) (a2 : Int32) (a3 : Int32) (σ : St) : Option (Int32 × St) := bn1 (fX6_exchange a2 a3 (σ)) (fun σ2 => letB (a2 + 1) (fun x3 => letB (a1 - 1) (fun x4 => fX6_nextOrder_85 x3 x4 (σ2))))
def bX6_nextOrder_48 (a1 : Int32) (a2 : Int32) (a3 : Int32) (σ : St) : Option ((Int32) ⊕ (Int32)) := ckB a3 8 (ckB a2 8 (if (gA σ 27 a2.toNatClampNeg) ≤ (gA σ 27 a3.toNatClampNeg) then some (.inl a3) else letB (a3 + (-1)) (fun x4 => some (.inr x4))))
def xX6_nextOrder_48 (a1 : Int32) (a2 : Int32) (σ : St) (ex : Int32) : Option (Int32 × St) := fX6_nextOrder_69 a1 a2 ex (σ)
def fX6_nextOrder_48 (a1 : Int32) (a2 : Int32) (a3 : Int32) (σ : St) : Option (Int32 × St) := bn1 (iter (fun v : Int32 => bX6_nextOrder_48 a1 a2 v σ) FU a3) (fun ex => xX6_nextOrder_48 a1 a2 σ ex)
def fX6_nextOrder_38 (a1 : Int32) (a2 : Int32) (σ : St) : Option (Int32 × St) := if 0 ≤ a2 then letB (a1 - 1) (fun x2 => fX6_nextOrder_48 a1 a2 x2 (σ)) else some (0, σ)
def bX6_nextOrder_11 (a1 : Int32) (a2 : Int32) (σ : St) : Option ((Int32) ⊕ (Int32)) := if a2 < 0 then some (.inl a2) else ckB a2 8 (ckB (a2 + 1) 8 (if (gA σ 27 a2.toNatClampNeg) ≤ (gA σ 27 (a2 + 1).toNatClampNeg) then some (.inl a2) else letB (a2 + (-1)) (fun x5 => some (.inr x5))))
def xX6_nextOrder_11 (a1 : Int32) (σ : St) (ex : Int32) : Option (Int32 × St) := fX6_nextOrder_38 a1 ex (σ)
def fX6_nextOrder_11 (a1 : Int32) (a2 : Int32) (σ : St) : Option (Int32 × St) := bn1 (iter (fun v : Int32 => bX6_nextOrder_11 a1 v σ) FU a2) (fun ex => xX6_nextOrder_11 a1 σ ex)
def fX6_nextOrder (σ : St) : Option (Int32 × St) := ckB 2 8060 (letB (gA σ 2 (2 : Int32).toNatClampNeg) (fun x2 => letB (x2 - 2) (fun x3 => fX6_nextOrder_11 x2 x3 (σ))))
-- X6_soonest
def bX6_soonest_109 (a1 : Int32) (a2 : Int32) (a3 : Int32) (a6 : Int32) (σ : St) : Option ((St) ⊕ (Int32 × St)) := if 8 ≤ a6 then some (.inl (σ)) else ckB a6 8 (ckB a6 8 (letB (pA σ 30 a6.toNatClampNeg (gA σ 28 a6.toNatClampNeg)) (fun σ4 => letB (a6 + 1) (fun x5 => some (.inr (x5, σ4))))))
def xX6_soonest_109 (a1 : Int32) (a2 : Int32) (a3 : Int32)  (ex : St) : Option ((Int32 × St) ⊕ (Int32 × Int32 × St)) := bn2 (fX6_nextOrder (ex)) (fun r1 σ2 => some (.inr (a3, r1, σ2)))
def fX6_soonest_109 (a1 : Int32) (a2 : Int32) (a3 : Int32) (a6 : Int32) (σ : St) : Option ((Int32 × St) ⊕ (Int32 × Int32 × St)) := bn1 (iter (fun v : Int32 × St => bX6_soonest_109 a1 a2 a3 v.1 v.2) FU (a6, σ)) (fun ex => xX6_soonest_109 a1 a2 a3 ex)
def fX6_soonest_145 (a2 : Int32) (a3 : Int32) (σ : St) : Option (Int32 × St) := if a2 = (-1) then some (a3, σ) else ckB a2 8 (some (gA σ 30 a2.toNatClampNeg, σ))
def bX6_soonest_74 (a1 : Int32) (a2 : Int32) (a3 : Int32) (a4 : Int32) (σ : St) : Option ((Int32 × St) ⊕ (Int32 × Int32 × St)) := if a4 = 0 then some (.inl (a3, σ)) else bn2 (fX6_doneBy a1 (σ)) (fun r2 σ3 => if r2 = (-1) then bn2 (fX6_nextOrder (σ3)) (fun r5 σ6 => some (.inr (a3, r5, σ6))) else if a3 = (-1) then fX6_soonest_109 a1 a2 r2 0 (σ3) else if a3 ≤ r2 then bn2 (fX6_nextOrder (σ3)) (fun r9 σ10 => some (.inr (a3, r9, σ10))) else fX6_soonest_109 a1 a2 r2 0 (σ3))
def xX6_soonest_74 (a1 : Int32) (a2 : Int32)  (ex : Int32 × St) : Option (Int32 × St) := fX6_soonest_145 a2 ex.1 (ex.2)
def fX6_soonest_74 (a1 : Int32) (a2 : Int32) (a3 : Int32) (a4 : Int32) (σ : St) : Option (Int32 × St) := bn1 (iter (fun v : Int32 × Int32 × St => bX6_soonest_74 a1 a2 v.1 v.2.1 v.2.2) FU (a3, a4, σ)) (fun ex => xX6_soonest_74 a1 a2 ex)
def bX6_soonest_50 (a1 : Int32) (a2 : Int32) (a3 : Int32) (σ : St) : Option ((St) ⊕ (Int32 × St)) := if 8 ≤ a3 then some (.inl (σ)) else ckB a3 8 (letB (pA σ 27 a3.toNatClampNeg a3) (fun σ3 => letB (a3 + 1) (fun x4 => some (.inr (x4, σ3)))))
def xX6_soonest_50 (a1 : Int32) (a2 : Int32)  (ex : St) : Option (Int32 × St) := fX6_soonest_74 a1 a2 (-1) 1 (ex)
def fX6_soonest_50 (a1 : Int32) (a2 : Int32) (a3 : Int32) (σ : St) : Option (Int32 × St) := bn1 (iter (fun v : Int32 × St => bX6_soonest_50 a1 a2 v.1 v.2) FU (a3, σ)) (fun ex => xX6_soonest_50 a1 a2 ex)
def fX6_soonest (a1 : Int32) (a2 : Int32) (σ : St) : Option (Int32 × St) := letB (pI σ 0 0 0) (fun σ1 => bn1 (fX6_in (a1.toInt64) 1 3) (fun r2 => if r2 = 0 then some ((-1), σ1) else ckB 2 8060 (bn1 (fX6_in (a2.toInt64) (-1) (((gA σ1 2 (2 : Int32).toNatClampNeg).toInt64) - 1)) (fun r5 => if r5 = 0 then some ((-1), σ1) else ckB 2 8060 (if (gA σ1 2 (2 : Int32).toNatClampNeg) = 0 then some ((-1), σ1) else fX6_soonest_50 a1 a2 0 (σ1))))))
-- X6_count
def fX6_count_37 (a1 : Int32) (a2 : Int32) (σ : St) : Option (Int32 × St) := if a1 = 0 then ckB 0 8060 (some (gA σ 2 (0 : Int32).toNatClampNeg, σ)) else if a1 = 1 then ckB 1 8060 (some (gA σ 2 (1 : Int32).toNatClampNeg, σ)) else if a1 = 2 then ckB 2 8060 (some (gA σ 2 (2 : Int32).toNatClampNeg, σ)) else if a1 = 3 then some (a2, σ) else if a1 = 4 then some (gI σ 0 7, σ) else if a1 = 5 then ckB 1 7 (some (gA σ 1 (1 : Int32).toNatClampNeg, σ)) else if a1 = 6 then ckB 2 7 (some (gA σ 1 (2 : Int32).toNatClampNeg, σ)) else if a1 = 7 then ckB 3 7 (some (gA σ 1 (3 : Int32).toNatClampNeg, σ)) else if a1 = 8 then ckB 5 7 (some (gA σ 1 (5 : Int32).toNatClampNeg, σ)) else if a1 = 9 then ckB 6 7 (some (gA σ 1 (6 : Int32).toNatClampNeg, σ)) else some ((-1), σ)
def bX6_count_9 (a1 : Int32) (a2 : Int32) (a3 : Int32) (σ : St) : Option ((Int32) ⊕ (Int32 × Int32)) := ckB 0 8060 (if (gA σ 2 (0 : Int32).toNatClampNeg) ≤ a3 then some (.inl a2) else ckB (20 + a3) 8060 (letB (a2 + (gA σ 2 (20 + a3).toNatClampNeg)) (fun x4 => letB (a3 + 1) (fun x5 => some (.inr (x4, x5))))))
def xX6_count_9 (a1 : Int32) (σ : St) (ex : Int32) : Option (Int32 × St) := fX6_count_37 a1 ex (σ)
def fX6_count_9 (a1 : Int32) (a2 : Int32) (a3 : Int32) (σ : St) : Option (Int32 × St) := bn1 (iter (fun v : Int32 × Int32 => bX6_count_9 a1 v.1 v.2 σ) FU (a2, a3)) (fun ex => xX6_count_9 a1 σ ex)
def fX6_count (a1 : Int32) (σ : St) : Option (Int32 × St) := letB (pI σ 0 0 0) (fun σ1 => fX6_count_9 a1 0 0 (σ1))
-- X6_status
def fX6_status (σ : St) : Option (Int32 × St) := letB (pI σ 0 0 0) (fun σ1 => some (gI σ1 0 1, σ1))
