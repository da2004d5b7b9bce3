/-! lists and trees of cells: shapes, what the methods do, lifted (by wip/gen/gen_d.py) -/
set_option maxRecDepth 100000
abbrev xDf9 : List (Nat × Nat) := [(3, 0), (3, 0)]
abbrev xD9 : Sh := (0, 9, 0, xDf9)
abbrev xDf10 : List (Nat × Nat) := [(0, 0)]
abbrev xD10 : Sh := (0, 10, 0, xDf10)
abbrev xDf11 : List (Nat × Nat) := [(0, 0)]
abbrev xD11 : Sh := (0, 11, 0, xDf11)
abbrev xDf12 : List (Nat × Nat) := [(3, 0)]
abbrev xD12 : Sh := (0, 12, 0, xDf12)
abbrev xDf13 : List (Nat × Nat) := [(3, 0)]
abbrev xD13 : Sh := (0, 13, 0, xDf13)
abbrev xDf14 : List (Nat × Nat) := [(0, 0), (3, 0), (3, 0)]
abbrev xD14 : Sh := (0, 14, 0, xDf14)
abbrev xDf15 : List (Nat × Nat) := [(3, 0), (3, 0)]
abbrev xD15 : Sh := (0, 15, 0, xDf15)
abbrev xDf16 : List (Nat × Nat) := [(3, 0), (3, 0)]
abbrev xD16 : Sh := (0, 16, 0, xDf16)
abbrev xDf17 : List (Nat × Nat) := [(3, 0), (3, 0)]
abbrev xD17 : Sh := (0, 17, 0, xDf17)
abbrev xDf18 : List (Nat × Nat) := [(3, 0), (3, 0)]
abbrev xD18 : Sh := (0, 18, 0, xDf18)
abbrev xDf19 : List (Nat × Nat) := [(3, 0), (3, 0), (3, 0)]
abbrev xD19 : Sh := (0, 19, 0, xDf19)
abbrev xDf20 : List (Nat × Nat) := [(0, 0), (3, 0), (3, 0)]
abbrev xD20 : Sh := (0, 20, 0, xDf20)
abbrev xDf21 : List (Nat × Nat) := [(3, 0)]
abbrev xD21 : Sh := (0, 21, 0, xDf21)
abbrev xDf22 : List (Nat × Nat) := [(0, 0), (3, 0)]
abbrev xD22 : Sh := (0, 22, 0, xDf22)
abbrev xDf23 : List (Nat × Nat) := [(0, 0), (0, 0)]
abbrev xD23 : Sh := (0, 23, 0, xDf23)
abbrev xDf24 : List (Nat × Nat) := [(0, 0), (3, 0), (0, 0)]
abbrev xD24 : Sh := (0, 24, 0, xDf24)
section CST
variable {p : Program} {l : Launch} {e : Env} {R : Room} {s : State} {m : MethodId} {args : Array Value} {below : List Frame} {meth : Method} {c : Code} {H : Heap} {locs : List Loc} {cells slots : Nat} {Q : State → Prop}
variable {cc : ByteArray} {nL : Nat} {sh : Nat → Sh} {ks : List Nat} {ad : Nat → Nat} {dc : Nat → ClassId} {D : va_G} {A : Nat → Prop} {own : String} {σ : St} {pc idx : Nat} {ls : Array Slot} {rest : List Value}
theorem g_castStep (C0 : Cx ad dc D own cc nL p s m args meth c) (G : GW sh ks ad dc D A s σ H locs) {ci : Nat} (hm : ci ∈ [9, 15, 16, 17, 18, 19]) {k : Nat} {fl : List (Nat × Nat)} (hk : k ∈ ks) (hs : sh k = (0, ci, 0, fl)) (hq : Cond.classLink own idx "HotIron$Step" ∈ lw_all) (hdg : decode cc pc = .ok (.checkcast idx, 3)) (kk : W p l e R s m args below meth c H locs cells slots Q (F0 m (pc + 3) ls (.ref (ad k) :: rest))) : W p l e R s m args below meth c H locs cells slots Q (F0 m pc ls (.ref (ad k) :: rest)) := by
  simp only [List.mem_cons, List.not_mem_nil, or_false] at hm
  rcases hm with rfl | rfl | rfl | rfl | rfl | rfl
  · exact g_castY C0 G (C := "HotIron$Fire") (ci := 9) rfl hk hs hq q2119 hdg kk
  · exact g_castY C0 G (C := "HotIron$Shoulder") (ci := 15) rfl hk hs hq q2122 hdg kk
  · exact g_castY C0 G (C := "HotIron$Punch") (ci := 16) rfl hk hs hq q2121 hdg kk
  · exact g_castY C0 G (C := "HotIron$Weld") (ci := 17) rfl hk hs hq q2124 hdg kk
  · exact g_castY C0 G (C := "HotIron$Go") (ci := 18) rfl hk hs hq q2120 hdg kk
  · exact g_castY C0 G (C := "HotIron$Strike") (ci := 19) rfl hk hs hq q2123 hdg kk
theorem g_castTest (C0 : Cx ad dc D own cc nL p s m args meth c) (G : GW sh ks ad dc D A s σ H locs) {ci : Nat} (hm : ci ∈ [20, 21, 22]) {k : Nat} {fl : List (Nat × Nat)} (hk : k ∈ ks) (hs : sh k = (0, ci, 0, fl)) (hq : Cond.classLink own idx "HotIron$Test" ∈ lw_all) (hdg : decode cc pc = .ok (.checkcast idx, 3)) (kk : W p l e R s m args below meth c H locs cells slots Q (F0 m (pc + 3) ls (.ref (ad k) :: rest))) : W p l e R s m args below meth c H locs cells slots Q (F0 m pc ls (.ref (ad k) :: rest)) := by
  simp only [List.mem_cons, List.not_mem_nil, or_false] at hm
  rcases hm with rfl | rfl | rfl
  · exact g_castY C0 G (C := "HotIron$Compare") (ci := 20) rfl hk hs hq q2125 hdg kk
  · exact g_castY C0 G (C := "HotIron$Not") (ci := 21) rfl hk hs hq q2126 hdg kk
  · exact g_castY C0 G (C := "HotIron$Several") (ci := 22) rfl hk hs hq q2127 hdg kk
end CST
-- J2_size
def fJ2_size (sh : Nat → Sh) (a0 : Nat) (σ : St) : Option (Int32) := ckS (sh a0) xD24 (some (gI σ a0 2))
-- J10_checkIndex_cN
def fJ10_checkIndex_cN (sh : Nat → Sh) (a0 : Int32) (a1 : Int32) : Option (Int32) := if a0 < 0 then none else if a0 < a1 then some a0 else none
-- J15_checkIndex
def fJ15_checkIndex (sh : Nat → Sh) (a0 : Int32) (a1 : Int32) : Option (Int32) := bn1 (fJ10_checkIndex_cN sh a0 a1) (fun r1 => some r1)
-- J2_elementData
def fJ2_elementData (sh : Nat → Sh) (a0 : Nat) (a1 : Int32) (σ : St) : Option (Nat) := ckS (sh a0) xD24 (ckN (gR σ a0 1) (fun v2 => ckO (sh v2) (fun n_3 => ckB a1 n_3 (ckN (gR σ v2 a1.toNatClampNeg) (fun v6 => some v6)))))
-- J2_get
def fJ2_get (sh : Nat → Sh) (a0 : Nat) (a1 : Int32) (σ : St) : Option (Nat) := ckS (sh a0) xD24 (bn1 (fJ15_checkIndex sh a1 (gI σ a0 2)) (fun r2 => ckS (sh a0) xD24 (bn1 (fJ2_elementData sh a0 a1 (σ)) (fun r3 => some r3))))
-- X12_of
def fX12_of (sh : Nat → Sh) (w0 : Nat) (a0 : Nat) (σ : St) : Option (Int32) := ckS (sh a0) xD10 (some (gI σ a0 0))
-- X13_of
def fX13_of (sh : Nat → Sh) (w0 : Nat) (a0 : Nat) (σ : St) : Option (Int32) := ckS (sh a0) xD11 (if (gI σ a0 0) = 0 then some (gI σ w0 3) else ckS (sh a0) xD11 (if (gI σ a0 0) = 1 then some (gI σ w0 8) else ckS (sh a0) xD11 (if (gI σ a0 0) = 2 then some (gI σ w0 9) else some (gI σ w0 10))))
-- X14_of
def fX14_of (sh : Nat → Sh) (FS : Nat → Option Int32) (w0 : Nat) (a0 : Nat) (σ : St) : Option (Int32) := ckS (sh a0) xD12 (ckN (gR σ a0 0) (fun v2 => bn1 (FS v2) (fun r3 => bn1 (fX2_ironOf w0 r3 (σ)) (fun r4 => some r4))))
-- X14_of_k13
def fX14_of_k13 (sh : Nat → Sh) (FS : Nat → Option Int32) (w0 : Nat) (a0 : Nat) (σ : St) : Option (Int32) := ckS (sh a0) xD13 (ckN (gR σ a0 0) (fun v2 => bn1 (FS v2) (fun r3 => bn1 (fX2_ironOf w0 r3 (σ)) (fun r4 => some r4))))
-- X15_of
def fX15_of (sh : Nat → Sh) (FS : Nat → Option Int32) (w0 : Nat) (a0 : Nat) (σ : St) : Option (Int32) := ckS (sh a0) xD13 (bn1 (fX14_of_k13 sh FS w0 a0 (σ)) (fun r1 => if r1 ≤ 0 then some 0 else ckS (sh a0) xD13 (ckN (gR σ a0 0) (fun v4 => bn1 (FS v4) (fun r5 => bn1 (fX2_isHot w0 r5 (σ)) (fun r6 => if r6 = 0 then some 0 else some 1))))))
-- X16_of
def fX16_of (sh : Nat → Sh) (FS : Nat → Option Int32) (w0 : Nat) (a0 : Nat) (σ : St) : Option (Int32) := ckS (sh a0) xD14 (ckN (gR σ a0 1) (fun v2 => bn1 (FS v2) (fun r3 => ckS (sh a0) xD14 (ckN (gR σ a0 2) (fun v5 => bn1 (FS v5) (fun r6 => ckS (sh a0) xD14 (if (gI σ a0 0) = 0 then some (r3 - r6) else some (r3 + r6))))))))
-- X23_is
def fX23_is (sh : Nat → Sh) (FS : Nat → Option Int32) (w0 : Nat) (a0 : Nat) (σ : St) : Option (Int32) := ckS (sh a0) xD20 (ckN (gR σ a0 1) (fun v2 => bn1 (FS v2) (fun r3 => ckS (sh a0) xD20 (ckN (gR σ a0 2) (fun v5 => bn1 (FS v5) (fun r6 => ckS (sh a0) xD20 (if (gI σ a0 0) = 60 then if r6 ≤ r3 then some 0 else some 1 else ckS (sh a0) xD20 (if (gI σ a0 0) = 62 then if r3 ≤ r6 then some 0 else some 1 else if r3 = r6 then some 1 else some 0))))))))
-- X24_is
def fX24_is (sh : Nat → Sh) (FT : Nat → Option Int32) (w0 : Nat) (a0 : Nat) (σ : St) : Option (Int32) := ckS (sh a0) xD21 (ckN (gR σ a0 0) (fun v2 => bn1 (FT v2) (fun r3 => if r3 = 0 then some 1 else some 0)))
-- X25_is
def fX25_is_35 (sh : Nat → Sh) (FT : Nat → Option Int32) (w0 : Nat) (a0 : Nat) (σ : St) : Option (Int32) := ckS (sh a0) xD22 (if (gI σ a0 0) = 0 then some 1 else some 0)
def bX25_is_2 (sh : Nat → Sh) (FT : Nat → Option Int32) (w0 : Nat) (a0 : Nat) (a2 : Int32) (σ : St) : Option (((Unit) ⊕ (Unit)) ⊕ (Int32)) := ckS (sh a0) xD22 (ckN (gR σ a0 1) (fun v2 => ckS (sh v2) xD24 (bn1 (fJ2_size sh v2 (σ)) (fun r3 => if r3 ≤ a2 then some (.inl (.inr ())) else ckS (sh a0) xD22 (ckN (gR σ a0 1) (fun v6 => ckS (sh v6) xD24 (bn1 (fJ2_get sh v6 a2 (σ)) (fun r7 => ckT (sh r7) [20, 21, 22] (bn1 (FT r7) (fun r9 => ckS (sh a0) xD22 (if r9 = (gI σ a0 0) then letB (a2 + 1) (fun x12 => some (.inr x12)) else some (.inl (.inl ())))))))))))))
def xX25_is_2 (sh : Nat → Sh) (FT : Nat → Option Int32) (w0 : Nat) (a0 : Nat) (σ : St) (ex : (Unit) ⊕ (Unit)) : Option (Int32) := match ex with
  | (.inl ()) => fX25_is_35 sh FT w0 a0 (σ)
  | (.inr ()) => ckS (sh a0) xD22 (ckZ (gI σ a0 0) (some (gI σ a0 0)))
def fX25_is_2 (sh : Nat → Sh) (FT : Nat → Option Int32) (w0 : Nat) (a0 : Nat) (a2 : Int32) (σ : St) : Option (Int32) := bn1 (iter (fun v : Int32 => bX25_is_2 sh FT w0 a0 v σ) FU a2) (fun ex => xX25_is_2 sh FT w0 a0 σ ex)
def fX25_is (sh : Nat → Sh) (FT : Nat → Option Int32) (w0 : Nat) (a0 : Nat) (σ : St) : Option (Int32) := fX25_is_2 sh FT w0 a0 0 (σ)
-- X10_does
def fX10_does (sh : Nat → Sh) (FS : Nat → Option Int32) (w0 : Nat) (a0 : Nat) (a2 : Int32) (σ : St) : Option (Int32 × St) := ckS (sh a0) xD9 (ckN (gR σ a0 0) (fun v2 => bn1 (FS v2) (fun r3 => bn2 (fX2_fires w0 r3 (σ)) (fun r4 σ5 => if r4 = 0 then letB (pI σ5 w0 21 a2) (fun σ7 => some (16, σ7)) else some (a2 + 1, σ5)))))
-- X17_does
def fX17_does (sh : Nat → Sh) (FS : Nat → Option Int32) (w0 : Nat) (a0 : Nat) (a2 : Int32) (σ : St) : Option (Int32 × St) := ckS (sh a0) xD15 (ckN (gR σ a0 0) (fun v2 => bn1 (FS v2) (fun r3 => bn1 (fX2_shoulders w0 r3 (σ)) (fun σ5 => some (a2 + 1, σ5)))))
-- X18_does
def fX18_does (sh : Nat → Sh) (FS : Nat → Option Int32) (w0 : Nat) (a0 : Nat) (a2 : Int32) (σ : St) : Option (Int32 × St) := ckS (sh a0) xD16 (ckN (gR σ a0 0) (fun v2 => bn1 (FS v2) (fun r3 => bn1 (fX2_punches w0 r3 (σ)) (fun σ5 => some (a2 + 1, σ5)))))
-- X19_does
def fX19_does (sh : Nat → Sh) (FS : Nat → Option Int32) (w0 : Nat) (a0 : Nat) (a2 : Int32) (σ : St) : Option (Int32 × St) := ckS (sh a0) xD17 (ckN (gR σ a0 0) (fun v2 => bn1 (FS v2) (fun r3 => bn1 (fX2_welds w0 r3 (σ)) (fun σ5 => some (a2 + 1, σ5)))))
-- X20_does
def fX20_does (sh : Nat → Sh) (FS : Nat → Option Int32) (w0 : Nat) (a0 : Nat) (σ : St) : Option (Int32) := ckS (sh a0) xD18 (ckN (gR σ a0 0) (fun v2 => bn1 (FS v2) (fun r3 => some r3)))
-- X21_does
def fX21_does (sh : Nat → Sh) (FS : Nat → Option Int32) (w0 : Nat) (a0 : Nat) (a2 : Int32) (σ : St) : Option (Int32 × St) := ckS (sh a0) xD19 (ckN (gR σ a0 0) (fun v2 => bn1 (FS v2) (fun r3 => ckS (sh a0) xD19 (ckN (gR σ a0 2) (fun v5 => bn1 (FS v5) (fun r6 => bn1 (fX2_strikes w0 r3 r6 (σ)) (fun σ8 => some (a2 + 1, σ8))))))))
-- X9_holds_k9
def fX9_holds_k9 (sh : Nat → Sh) (FT : Nat → Option Int32) (w0 : Nat) (a0 : Nat) (σ : St) : Option (Int32) := ckS (sh a0) xD9 (caN (gR σ a0 1) (some 1) (fun v2 => ckS (sh a0) xD9 (caN (gR σ a0 1) (none) (fun v4 => bn1 (FT v4) (fun r5 => if r5 = 0 then some 0 else some 1)))))
-- X9_holds_k15
def fX9_holds_k15 (sh : Nat → Sh) (FT : Nat → Option Int32) (w0 : Nat) (a0 : Nat) (σ : St) : Option (Int32) := ckS (sh a0) xD15 (caN (gR σ a0 1) (some 1) (fun v2 => ckS (sh a0) xD15 (caN (gR σ a0 1) (none) (fun v4 => bn1 (FT v4) (fun r5 => if r5 = 0 then some 0 else some 1)))))
-- X9_holds_k16
def fX9_holds_k16 (sh : Nat → Sh) (FT : Nat → Option Int32) (w0 : Nat) (a0 : Nat) (σ : St) : Option (Int32) := ckS (sh a0) xD16 (caN (gR σ a0 1) (some 1) (fun v2 => ckS (sh a0) xD16 (caN (gR σ a0 1) (none) (fun v4 => bn1 (FT v4) (fun r5 => if r5 = 0 then some 0 else some 1)))))
-- X9_holds_k17
def fX9_holds_k17 (sh : Nat → Sh) (FT : Nat → Option Int32) (w0 : Nat) (a0 : Nat) (σ : St) : Option (Int32) := ckS (sh a0) xD17 (caN (gR σ a0 1) (some 1) (fun v2 => ckS (sh a0) xD17 (caN (gR σ a0 1) (none) (fun v4 => bn1 (FT v4) (fun r5 => if r5 = 0 then some 0 else some 1)))))
-- X9_holds_k18
def fX9_holds_k18 (sh : Nat → Sh) (FT : Nat → Option Int32) (w0 : Nat) (a0 : Nat) (σ : St) : Option (Int32) := ckS (sh a0) xD18 (caN (gR σ a0 1) (some 1) (fun v2 => ckS (sh a0) xD18 (caN (gR σ a0 1) (none) (fun v4 => bn1 (FT v4) (fun r5 => if r5 = 0 then some 0 else some 1)))))
-- X9_holds_k19
def fX9_holds_k19 (sh : Nat → Sh) (FT : Nat → Option Int32) (w0 : Nat) (a0 : Nat) (σ : St) : Option (Int32) := ckS (sh a0) xD19 (caN (gR σ a0 1) (some 1) (fun v2 => ckS (sh a0) xD19 (caN (gR σ a0 1) (none) (fun v4 => bn1 (FT v4) (fun r5 => if r5 = 0 then some 0 else some 1)))))
def fSum (sh : Nat → Sh) (w0 : Nat) (σ : St) : Nat → Nat → Option Int32
  | 0, _ => none
  | n + 1, a => if sh a = xD10 then fX12_of sh w0 a σ else if sh a = xD11 then fX13_of sh w0 a σ else if sh a = xD12 then fX14_of sh (fSum sh w0 σ n) w0 a σ else if sh a = xD13 then fX15_of sh (fSum sh w0 σ n) w0 a σ else if sh a = xD14 then fX16_of sh (fSum sh w0 σ n) w0 a σ else none
def fTest (sh : Nat → Sh) (w0 : Nat) (σ : St) : Nat → Nat → Option Int32
  | 0, _ => none
  | n + 1, a => if sh a = xD20 then fX23_is sh (fSum sh w0 σ 130) w0 a σ else if sh a = xD21 then fX24_is sh (fTest sh w0 σ n) w0 a σ else if sh a = xD22 then fX25_is sh (fTest sh w0 σ n) w0 a σ else none
def fHolds (sh : Nat → Sh) (w0 a : Nat) (σ : St) : Option Int32 := if sh a = xD9 then fX9_holds_k9 sh (fTest sh w0 σ 40) w0 a σ else if sh a = xD15 then fX9_holds_k15 sh (fTest sh w0 σ 40) w0 a σ else if sh a = xD16 then fX9_holds_k16 sh (fTest sh w0 σ 40) w0 a σ else if sh a = xD17 then fX9_holds_k17 sh (fTest sh w0 σ 40) w0 a σ else if sh a = xD18 then fX9_holds_k18 sh (fTest sh w0 σ 40) w0 a σ else if sh a = xD19 then fX9_holds_k19 sh (fTest sh w0 σ 40) w0 a σ else none
def fDoes (sh : Nat → Sh) (w0 a : Nat) (t : Int32) (σ : St) : Option (Int32 × St) := if sh a = xD9 then fX10_does sh (fSum sh w0 σ 130) w0 a t σ else if sh a = xD15 then fX17_does sh (fSum sh w0 σ 130) w0 a t σ else if sh a = xD16 then fX18_does sh (fSum sh w0 σ 130) w0 a t σ else if sh a = xD17 then fX19_does sh (fSum sh w0 σ 130) w0 a t σ else if sh a = xD18 then bn1 (fX20_does sh (fSum sh w0 σ 130) w0 a σ) (fun r => some (r, σ)) else if sh a = xD19 then fX21_does sh (fSum sh w0 σ 130) w0 a t σ else none
-- X0_isRecipe
def fX0_isRecipe (sh : Nat → Sh) (a1 : Int32) (σ : St) : Option (Int32) := if a1 < 0 then some 0 else bn1 (fJ2_size sh 6 (σ)) (fun r2 => if r2 ≤ a1 then some 0 else some 1)
-- X0_steps
def fX0_steps (sh : Nat → Sh) (a1 : Int32) (σ : St) : Option (Int32) := bn1 (fX0_isRecipe sh a1 (σ)) (fun r1 => if r1 = 0 then some (-1) else bn1 (fJ2_get sh 6 a1 (σ)) (fun r3 => ckS (sh r3) xD24 (ckS (sh r3) xD24 (bn1 (fJ2_size sh r3 (σ)) (fun r5 => some r5)))))
-- X0_count
def fX0_count_33 (sh : Nat → Sh) (a1 : Int32) (a2 : Int32) (σ : St) : Option (Int32) := if a1 = 0 then some (gI σ 2 5) else if a1 = 1 then bn1 (fJ2_size sh 6 (σ)) (fun r3 => some r3) else if a1 = 2 then bn1 (fJ2_size sh 8 (σ)) (fun r5 => some r5) else if a1 = 3 then some a2 else if a1 = 4 then some (gI σ 0 5) else if a1 = 5 then ckB (a1 - 4) 7 (some (gA σ 1 (a1 - 4).toNatClampNeg)) else if a1 = 6 then ckB (a1 - 4) 7 (some (gA σ 1 (a1 - 4).toNatClampNeg)) else if a1 = 7 then ckB (a1 - 4) 7 (some (gA σ 1 (a1 - 4).toNatClampNeg)) else if a1 = 8 then ckB (a1 - 3) 7 (some (gA σ 1 (a1 - 3).toNatClampNeg)) else if a1 = 9 then ckB (a1 - 3) 7 (some (gA σ 1 (a1 - 3).toNatClampNeg)) else some (-1)
def bX0_count_4 (sh : Nat → Sh) (a1 : Int32) (a2 : Int32) (a3 : Int32) (σ : St) : Option ((Int32) ⊕ (Int32 × Int32)) := if (gI σ 2 5) ≤ a3 then some (.inl a2) else ckB a3 5 (letB (a2 + (gA σ 3 a3.toNatClampNeg)) (fun x3 => letB (a3 + 1) (fun x4 => some (.inr (x3, x4)))))
def xX0_count_4 (sh : Nat → Sh) (a1 : Int32) (σ : St) (ex : Int32) : Option (Int32) := fX0_count_33 sh a1 ex (σ)
def fX0_count_4 (sh : Nat → Sh) (a1 : Int32) (a2 : Int32) (a3 : Int32) (σ : St) : Option (Int32) := bn1 (iter (fun v : Int32 × Int32 => bX0_count_4 sh a1 v.1 v.2 σ) FU (a2, a3)) (fun ex => xX0_count_4 sh a1 σ ex)
def fX0_count (sh : Nat → Sh) (a1 : Int32) (σ : St) : Option (Int32) := fX0_count_4 sh a1 0 0 (σ)
-- X0_goes_cN
def fX0_goes_cN_117 (sh : Nat → Sh) (w0 : Nat) (a3 : Int32) (a5 : Nat) (a6 : Int32) (a7 : Int32) (t0 : Nat) (t1 : Int32) (σ : St) : Option ((Int32 × St) ⊕ (Int32 × Int32 × St)) := ckS (sh t0) xD24 (bn1 (fJ2_get sh t0 t1 (σ)) (fun r1 => ckT (sh r1) [9, 15, 16, 17, 18, 19] (bn1 (fHolds sh w0 r1 (σ)) (fun r3 => if r3 = 0 then letB (a6 + 1) (fun x5 => letB (a7 + 1) (fun x6 => some (.inr (x5, x6, σ)))) else bn2 (fDoes sh w0 r1 a6 (σ)) (fun r7 σ8 => letB (a7 + 1) (fun x9 => some (.inr (r7, x9, σ8))))))))
def fX0_goes_cN_115 (sh : Nat → Sh) (w0 : Nat) (a3 : Int32) (a5 : Nat) (a6 : Int32) (a7 : Int32) (t0 : Nat) (σ : St) : Option ((Int32 × St) ⊕ (Int32 × Int32 × St)) := fX0_goes_cN_117 sh w0 a3 a5 a6 a7 t0 a6 (σ)
def fX0_goes_cN_96 (sh : Nat → Sh) (w0 : Nat) (a3 : Int32) (a5 : Nat) (a6 : Int32) (a7 : Int32) (t0 : Nat) (σ : St) : Option ((Int32 × St) ⊕ (Int32 × Int32 × St)) := if a3 < 0 then fX0_goes_cN_115 sh w0 a3 a5 a6 a7 t0 (σ) else if a6 = (a3 + 1) then fX0_goes_cN_117 sh w0 a3 a5 a6 a7 t0 (a6 - 1) (σ) else fX0_goes_cN_115 sh w0 a3 a5 a6 a7 t0 (σ)
def bX0_goes_cN_60 (sh : Nat → Sh) (w0 : Nat) (a3 : Int32) (a5 : Nat) (a6 : Int32) (a7 : Int32) (σ : St) : Option ((Int32 × St) ⊕ (Int32 × Int32 × St)) := ckS (sh a5) xD24 (bn1 (fJ2_size sh a5 (σ)) (fun r1 => if r1 ≤ a6 then some (.inl (a7, σ)) else if 100 ≤ a7 then some (.inl (a7, σ)) else if a3 < 0 then fX0_goes_cN_96 sh w0 a3 a5 a6 a7 a5 (σ) else if a6 = a3 then fX0_goes_cN_117 sh w0 a3 a5 a6 a7 a5 (a6 + 1) (σ) else fX0_goes_cN_96 sh w0 a3 a5 a6 a7 a5 (σ)))
def xX0_goes_cN_60 (sh : Nat → Sh) (w0 : Nat) (a3 : Int32) (a5 : Nat)  (ex : Int32 × St) : Option (Int32 × St) := some (ex.1, ex.2)
def fX0_goes_cN_60 (sh : Nat → Sh) (w0 : Nat) (a3 : Int32) (a5 : Nat) (a6 : Int32) (a7 : Int32) (σ : St) : Option (Int32 × St) := bn1 (iter (fun v : Int32 × Int32 × St => bX0_goes_cN_60 sh w0 a3 a5 v.1 v.2.1 v.2.2) FU (a6, a7, σ)) (fun ex => xX0_goes_cN_60 sh w0 a3 a5 ex)
def fX0_goes_cN (sh : Nat → Sh) (w0 : Nat) (a2 : Int32) (a3 : Int32) (σ : St) : Option (Int32 × St) := bn1 (fJ2_get sh 6 a2 (σ)) (fun r1 => ckS (sh r1) xD24 (bn1 (fX2_begins_c3_c5 w0 (gI σ 2 5) (gI σ 2 6) (σ)) (fun σ4 => letB (pR σ4 w0 22 none) (fun σ5 => fX0_goes_cN_60 sh w0 a3 r1 0 0 (σ5)))))
-- X0_run
def fX0_run (sh : Nat → Sh) (a1 : Int32) (σ : St) : Option (Int32 × St) := bn1 (fX0_isRecipe sh a1 (σ)) (fun r1 => if r1 = 0 then bn2 (fX0_refuse (-2) (σ)) (fun r8 σ9 => some (r8, σ9)) else letB (pI σ 0 11 1) (fun σ3 => bn2 (fX0_goes_cN sh 12 a1 (-1) (σ3)) (fun r4 σ5 => bn2 (fX0_done r4 (σ5)) (fun r6 σ7 => some (r6, σ7)))))
-- X0_change
def fX0_change (sh : Nat → Sh) (a1 : Int32) (a2 : Int32) (σ : St) : Option (Int32 × St) := bn1 (fX0_isRecipe sh a1 (σ)) (fun r1 => if r1 = 0 then some ((-1), σ) else bn1 (fX0_steps sh a1 (σ)) (fun r3 => bn1 (fX0_in a2 0 (r3 - 2)) (fun r4 => if r4 = 0 then some ((-1), σ) else bn2 (fX0_goes_cN sh 16 a1 (-1) (σ)) (fun r6 σ7 => bn2 (fX0_goes_cN sh 20 a1 a2 (σ7)) (fun r8 σ9 => bn1 (fX2_isAs_c20 16 (σ9)) (fun r10 => if r10 = 0 then some (0, σ9) else some (1, σ9)))))))
-- X0_made
def bX0_made_116 (sh : Nat → Sh) (a2 : Int32) (a3 : Int32) (a4 : Int32) (a8 : Int32) (a9 : Int32) (σ : St) : Option ((Int32 × St) ⊕ (Int32 × Int32 × St)) := bn1 (fJ2_size sh 6 (σ)) (fun r1 => if r1 ≤ a9 then some (.inl (a8, σ)) else bn2 (fX0_goes_cN sh 16 a9 (-1) (σ)) (fun r3 σ4 => if (gI σ4 16 21) = (-1) then bn1 (fX2_row 16 (σ4)) (fun r7 => if r7 = a4 then if (gI σ4 16 16) = a2 then if (gI σ4 16 18) = a3 then letB (a8 ||| (1 <<< (a9 &&& 31))) (fun x14 => letB (a9 + 1) (fun x15 => some (.inr (x14, x15, σ4)))) else letB (a9 + 1) (fun x13 => some (.inr (a8, x13, σ4))) else letB (a9 + 1) (fun x11 => some (.inr (a8, x11, σ4))) else letB (a9 + 1) (fun x9 => some (.inr (a8, x9, σ4)))) else letB (a9 + 1) (fun x6 => some (.inr (a8, x6, σ4)))))
def xX0_made_116 (sh : Nat → Sh) (a2 : Int32) (a3 : Int32) (a4 : Int32)  (ex : Int32 × St) : Option (Int32 × St) := some (ex.1, ex.2)
def fX0_made_116 (sh : Nat → Sh) (a2 : Int32) (a3 : Int32) (a4 : Int32) (a8 : Int32) (a9 : Int32) (σ : St) : Option (Int32 × St) := bn1 (iter (fun v : Int32 × Int32 × St => bX0_made_116 sh a2 a3 a4 v.1 v.2.1 v.2.2) FU (a8, a9, σ)) (fun ex => xX0_made_116 sh a2 a3 a4 ex)
def fX0_made_70 (sh : Nat → Sh) (a2 : Int32) (a3 : Int32) (a4 : Int32) (a5 : Int32) (σ : St) : Option (Int32 × St) := letB ((1 <<< ((gI σ 2 5) &&& 31)) - 1) (fun x1 => if a5 = 0 then bn1 (fX0_in a2 0 x1) (fun r3 => if r3 = 0 then some ((-1), σ) else bn1 (fX0_in a3 0 x1) (fun r5 => if r5 = 0 then some ((-1), σ) else fX0_made_116 sh a2 a3 a4 0 0 (σ))) else some ((-1), σ))
def bX0_made_12 (sh : Nat → Sh) (a2 : Int32) (a3 : Int32) (a4 : Int32) (a5 : Int32) (a6 : Int32) (a7 : Int32) (σ : St) : Option (((Unit) ⊕ (Int32 × Int32)) ⊕ (Int32 × Int32 × Int32 × Int32)) := if (gI σ 2 5) ≤ a7 then some (.inl (.inr (a4, a5))) else if 1 ≤ (a5 - (a5 / 10) * 10) then letB (a4 + (a6 * ((a5 - (a5 / 10) * 10) - 1))) (fun x3 => letB (a6 * 9) (fun x4 => letB (a5 / 10) (fun x5 => letB (a7 + 1) (fun x6 => some (.inr (x3, x5, x4, x6)))))) else some (.inl (.inl ()))
def xX0_made_12 (sh : Nat → Sh) (a2 : Int32) (a3 : Int32) (σ : St) (ex : (Unit) ⊕ (Int32 × Int32)) : Option (Int32 × St) := match ex with
  | (.inl ()) => some ((-1), σ)
  | (.inr (b4, b5)) => fX0_made_70 sh a2 a3 b4 b5 (σ)
def fX0_made_12 (sh : Nat → Sh) (a2 : Int32) (a3 : Int32) (a4 : Int32) (a5 : Int32) (a6 : Int32) (a7 : Int32) (σ : St) : Option (Int32 × St) := bn1 (iter (fun v : Int32 × Int32 × Int32 × Int32 => bX0_made_12 sh a2 a3 v.1 v.2.1 v.2.2.1 v.2.2.2 σ) FU (a4, a5, a6, a7)) (fun ex => xX0_made_12 sh a2 a3 σ ex)
def fX0_made (sh : Nat → Sh) (a1 : Int32) (a2 : Int32) (a3 : Int32) (σ : St) : Option (Int32 × St) := fX0_made_12 sh a2 a3 0 a1 1 0 (σ)
-- X0_goes_c48
def fX0_goes_c48_117 (sh : Nat → Sh) (w0 : Nat) (a3 : Int32) (a5 : Nat) (a6 : Int32) (a7 : Int32) (t0 : Nat) (t1 : Int32) (σ : St) : Option ((Int32 × St) ⊕ (Int32 × Int32 × St)) := ckS (sh t0) xD24 (bn1 (fJ2_get sh t0 t1 (σ)) (fun r1 => ckT (sh r1) [9, 15, 16, 17, 18, 19] (bn1 (fHolds sh w0 r1 (σ)) (fun r3 => if r3 = 0 then letB (a6 + 1) (fun x5 => letB (a7 + 1) (fun x6 => some (.inr (x5, x6, σ)))) else bn2 (fDoes sh w0 r1 a6 (σ)) (fun r7 σ8 => letB (a7 + 1) (fun x9 => some (.inr (r7, x9, σ8))))))))
def fX0_goes_c48_115 (sh : Nat → Sh) (w0 : Nat) (a3 : Int32) (a5 : Nat) (a6 : Int32) (a7 : Int32) (t0 : Nat) (σ : St) : Option ((Int32 × St) ⊕ (Int32 × Int32 × St)) := fX0_goes_c48_117 sh w0 a3 a5 a6 a7 t0 a6 (σ)
def fX0_goes_c48_96 (sh : Nat → Sh) (w0 : Nat) (a3 : Int32) (a5 : Nat) (a6 : Int32) (a7 : Int32) (t0 : Nat) (σ : St) : Option ((Int32 × St) ⊕ (Int32 × Int32 × St)) := if a3 < 0 then fX0_goes_c48_115 sh w0 a3 a5 a6 a7 t0 (σ) else if a6 = (a3 + 1) then fX0_goes_c48_117 sh w0 a3 a5 a6 a7 t0 (a6 - 1) (σ) else fX0_goes_c48_115 sh w0 a3 a5 a6 a7 t0 (σ)
def bX0_goes_c48_60 (sh : Nat → Sh) (w0 : Nat) (a3 : Int32) (a5 : Nat) (a6 : Int32) (a7 : Int32) (σ : St) : Option ((Int32 × St) ⊕ (Int32 × Int32 × St)) := ckS (sh a5) xD24 (bn1 (fJ2_size sh a5 (σ)) (fun r1 => if r1 ≤ a6 then some (.inl (a7, σ)) else if 100 ≤ a7 then some (.inl (a7, σ)) else if a3 < 0 then fX0_goes_c48_96 sh w0 a3 a5 a6 a7 a5 (σ) else if a6 = a3 then fX0_goes_c48_117 sh w0 a3 a5 a6 a7 a5 (a6 + 1) (σ) else fX0_goes_c48_96 sh w0 a3 a5 a6 a7 a5 (σ)))
def xX0_goes_c48_60 (sh : Nat → Sh) (w0 : Nat) (a3 : Int32) (a5 : Nat)  (ex : Int32 × St) : Option (Int32 × St) := some (ex.1, ex.2)
def fX0_goes_c48_60 (sh : Nat → Sh) (w0 : Nat) (a3 : Int32) (a5 : Nat) (a6 : Int32) (a7 : Int32) (σ : St) : Option (Int32 × St) := bn1 (iter (fun v : Int32 × Int32 × St => bX0_goes_c48_60 sh w0 a3 a5 v.1 v.2.1 v.2.2) FU (a6, a7, σ)) (fun ex => xX0_goes_c48_60 sh w0 a3 a5 ex)
def fX0_goes_c48 (sh : Nat → Sh) (w0 : Nat) (a2 : Int32) (a3 : Int32) (σ : St) : Option (Int32 × St) := bn1 (fJ2_get sh 6 a2 (σ)) (fun r1 => ckS (sh r1) xD24 (bn1 (fX2_begins_c3_c5 w0 (gI σ 2 5) (gI σ 2 6) (σ)) (fun σ4 => letB (pR σ4 w0 22 (some 48)) (fun σ5 => fX0_goes_c48_60 sh w0 a3 r1 0 0 (σ5)))))
-- X0_twelve
def bX0_twelve_173 (sh : Nat → Sh) (a1 : Int32) (a4 : Int32) (a5 : Int32) (a6 : Int32) (a7 : Int32) (a8 : Int32) (a9 : Int32) (σ : St) : Option ((Int32) ⊕ (Int32 × Int32)) := if a8 ≤ a9 then some (.inl a7) else bn1 (fX0_apart a8 a9 (σ)) (fun r2 => letB (if a7 < r2 then r2 else a7) (fun x3 => letB (a9 + 1) (fun x4 => some (.inr (x3, x4)))))
def xX0_twelve_173 (sh : Nat → Sh) (a1 : Int32) (a4 : Int32) (a5 : Int32) (a6 : Int32) (a8 : Int32) (σ : St) (ex : Int32) : Option ((Int32 × Int32 × Int32 × St) ⊕ (Int32 × Int32 × Int32 × Int32 × St)) := letB (a8 + 1) (fun x1 => some (.inr (a5, a6, ex, x1, σ)))
def fX0_twelve_173 (sh : Nat → Sh) (a1 : Int32) (a4 : Int32) (a5 : Int32) (a6 : Int32) (a7 : Int32) (a8 : Int32) (a9 : Int32) (σ : St) : Option ((Int32 × Int32 × Int32 × St) ⊕ (Int32 × Int32 × Int32 × Int32 × St)) := bn1 (iter (fun v : Int32 × Int32 => bX0_twelve_173 sh a1 a4 a5 a6 v.1 a8 v.2 σ) FU (a7, a9)) (fun ex => xX0_twelve_173 sh a1 a4 a5 a6 a8 σ ex)
def fX0_twelve_147 (sh : Nat → Sh) (a1 : Int32) (a4 : Int32) (a6 : Int32) (a7 : Int32) (a8 : Int32) (t0 : Int32) (t1 : Int32) (σ : St) : Option ((Int32 × Int32 × Int32 × St) ⊕ (Int32 × Int32 × Int32 × Int32 × St)) := letB (t0 + t1) (fun x1 => bn1 (fX0_apart a8 0 (σ)) (fun r2 => if r2 = 0 then letB (a6 + 1) (fun x5 => fX0_twelve_173 sh a1 a4 x1 x5 a7 a8 0 (σ)) else letB (a6 + 0) (fun x4 => fX0_twelve_173 sh a1 a4 x1 x4 a7 a8 0 (σ))))
def fX0_twelve_207 (sh : Nat → Sh) (a4 : Int32) (a5 : Int32) (a6 : Int32) (a7 : Int32) (σ : St) : Option (Int32 × St) := if a4 = 0 then some (a6, σ) else if a4 = 1 then some (a7, σ) else some (a5, σ)
def bX0_twelve_81 (sh : Nat → Sh) (a1 : Int32) (a4 : Int32) (a5 : Int32) (a6 : Int32) (a7 : Int32) (a8 : Int32) (σ : St) : Option ((Int32 × Int32 × Int32 × St) ⊕ (Int32 × Int32 × Int32 × Int32 × St)) := if 12 ≤ a8 then some (.inl (a5, a6, a7, σ)) else bn2 (fX0_goes_c48 sh 16 a1 (-1) (σ)) (fun r2 σ3 => ckC 0 (5 * a8) 5 5 60 (letB (pC σ3 17 47 (0 : Int32).toNatClampNeg (5 * a8).toNatClampNeg (5 : Int32).toNatClampNeg) (fun σ4 => bn1 (fX2_row 16 (σ4)) (fun r6 => bn1 (fX2_row 20 (σ4)) (fun r7 => if r6 = r7 then fX0_twelve_147 sh a1 a4 a6 a7 a8 a5 1 (σ4) else fX0_twelve_147 sh a1 a4 a6 a7 a8 a5 0 (σ4))))))
def xX0_twelve_81 (sh : Nat → Sh) (a1 : Int32) (a4 : Int32)  (ex : Int32 × Int32 × Int32 × St) : Option (Int32 × St) := fX0_twelve_207 sh a4 ex.1 ex.2.1 ex.2.2.1 (ex.2.2.2)
def fX0_twelve_81 (sh : Nat → Sh) (a1 : Int32) (a4 : Int32) (a5 : Int32) (a6 : Int32) (a7 : Int32) (a8 : Int32) (σ : St) : Option (Int32 × St) := bn1 (iter (fun v : Int32 × Int32 × Int32 × Int32 × St => bX0_twelve_81 sh a1 a4 v.1 v.2.1 v.2.2.1 v.2.2.2.1 v.2.2.2.2) FU (a5, a6, a7, a8, σ)) (fun ex => xX0_twelve_81 sh a1 a4 ex)
def fX0_twelve (sh : Nat → Sh) (a1 : Int32) (a2 : Int32) (a3 : Int32) (a4 : Int32) (σ : St) : Option (Int32 × St) := bn1 (fX0_isRecipe sh a1 (σ)) (fun r1 => if r1 = 0 then some ((-1), σ) else bn1 (fX0_in a2 0 100) (fun r3 => if r3 = 0 then some ((-1), σ) else bn1 (fX0_in a3 0 1000000) (fun r5 => if r5 = 0 then some ((-1), σ) else bn1 (fX0_in a4 0 2) (fun r7 => if r7 = 0 then some ((-1), σ) else letB (pI σ 48 0 a2) (fun σ9 => letB (pI σ9 48 1 a3) (fun σ10 => bn2 (fX0_goes_cN sh 20 a1 (-1) (σ10)) (fun r11 σ12 => fX0_twelve_81 sh a1 a4 0 0 0 0 (σ12))))))))
-- X5_goes
def fX5_goes_271 (sh : Nat → Sh) (FG : Int32 → Int32 → St → Option St) (a1 : Int32) (a2 : Int32) (a3 : Int32) (a5 : Int32) (a6 : Int32) (σ : St) : Option ((St) ⊕ (Int32 × St)) := ckB a5 3 (letB (pA σ 53 a5.toNatClampNeg a6) (fun σ2 => letB (a3 + 1) (fun x3 => some (.inr (x3, σ2)))))
def fX5_goes_207 (sh : Nat → Sh) (FG : Int32 → Int32 → St → Option St) (a1 : Int32) (a2 : Int32) (a3 : Int32) (a4 : Nat) (a5 : Int32) (a6 : Int32) (t1 : Int32) (t2 : Int32) (σ : St) : Option ((St) ⊕ (Int32 × St)) := ckB t1 8 (letB (pA σ 50 t1.toNatClampNeg t2) (fun σ2 => ckB a3 8 (ckS (sh a4) xD23 (ckB a3 8 (letB (pA σ2 51 a3.toNatClampNeg ((gA σ2 50 a3.toNatClampNeg) + (gI σ2 a4 0))) (fun σ6 => ckB a3 8 (ckB a5 3 (letB (pA σ6 53 a5.toNatClampNeg (gA σ6 51 a3.toNatClampNeg)) (fun σ9 => ckB a3 8 (if (gI σ9 49 4) ≤ (gA σ9 51 a3.toNatClampNeg) then fX5_goes_271 sh FG a1 a2 a3 a5 a6 (σ9) else ckB a3 8 (bn1 (FG (a1 ||| (1 <<< (a3 &&& 31))) (if a2 < (gA σ9 51 a3.toNatClampNeg) then (gA σ9 51 a3.toNatClampNeg) else a2) (σ9)) (fun σ14 => fX5_goes_271 sh FG a1 a2 a3 a5 a6 (σ14)))))))))))))
def fX5_goes_164 (sh : Nat → Sh) (FG : Int32 → Int32 → St → Option St) (a1 : Int32) (a2 : Int32) (a3 : Int32) (a4 : Nat) (a5 : Int32) (σ : St) : Option ((St) ⊕ (Int32 × St)) := ckB a5 3 (letB (gA σ 53 a5.toNatClampNeg) (fun x2 => ckS (sh a4) xD23 (if (gI σ a4 1) = (-1) then fX5_goes_207 sh FG a1 a2 a3 a4 a5 x2 a3 x2 (σ) else ckS (sh a4) xD23 (ckB (gI σ a4 1) 8 (fX5_goes_207 sh FG a1 a2 a3 a4 a5 x2 a3 (if x2 < (gA σ 51 (gI σ a4 1).toNatClampNeg) then (gA σ 51 (gI σ a4 1).toNatClampNeg) else x2) (σ))))))
def bX5_goes_128 (sh : Nat → Sh) (FG : Int32 → Int32 → St → Option St) (a1 : Int32) (a2 : Int32) (a3 : Int32) (a4 : Nat) (a5 : Int32) (a6 : Int32) (σ : St) : Option ((Int32) ⊕ (Int32 × Int32)) := if (gI σ 49 5) ≤ a6 then some (.inl a5) else ckB a6 3 (ckB a5 3 (if (gA σ 53 a5.toNatClampNeg) ≤ (gA σ 53 a6.toNatClampNeg) then letB (a6 + 1) (fun x5 => some (.inr (a5, x5))) else letB (a6 + 1) (fun x6 => some (.inr (a6, x6)))))
def xX5_goes_128 (sh : Nat → Sh) (FG : Int32 → Int32 → St → Option St) (a1 : Int32) (a2 : Int32) (a3 : Int32) (a4 : Nat) (σ : St) (ex : Int32) : Option ((St) ⊕ (Int32 × St)) := fX5_goes_164 sh FG a1 a2 a3 a4 ex (σ)
def fX5_goes_128 (sh : Nat → Sh) (FG : Int32 → Int32 → St → Option St) (a1 : Int32) (a2 : Int32) (a3 : Int32) (a4 : Nat) (a5 : Int32) (a6 : Int32) (σ : St) : Option ((St) ⊕ (Int32 × St)) := bn1 (iter (fun v : Int32 × Int32 => bX5_goes_128 sh FG a1 a2 a3 a4 v.1 v.2 σ) FU (a5, a6)) (fun ex => xX5_goes_128 sh FG a1 a2 a3 a4 σ ex)
def bX5_goes_53 (sh : Nat → Sh) (FG : Int32 → Int32 → St → Option St) (a1 : Int32) (a2 : Int32) (a3 : Int32) (σ : St) : Option ((St) ⊕ (Int32 × St)) := bn1 (fJ2_size sh 8 (σ)) (fun r1 => if r1 ≤ a3 then some (.inl (σ)) else bn1 (fJ2_get sh 8 a3 (σ)) (fun r3 => ckS (sh r3) xD23 (if ((a1 >>> (a3 &&& 31)) &&& 1) = 1 then letB (a3 + 1) (fun x6 => some (.inr (x6, σ))) else ckS (sh r3) xD23 (if (gI σ r3 1) = (-1) then fX5_goes_128 sh FG a1 a2 a3 r3 0 1 (σ) else ckS (sh r3) xD23 (if ((a1 >>> ((gI σ r3 1) &&& 31)) &&& 1) = 0 then letB (a3 + 1) (fun x11 => some (.inr (x11, σ))) else fX5_goes_128 sh FG a1 a2 a3 r3 0 1 (σ))))))
def xX5_goes_53 (sh : Nat → Sh) (FG : Int32 → Int32 → St → Option St) (a1 : Int32) (a2 : Int32)  (ex : St) : Option (St) := some ex
def fX5_goes_53 (sh : Nat → Sh) (FG : Int32 → Int32 → St → Option St) (a1 : Int32) (a2 : Int32) (a3 : Int32) (σ : St) : Option (St) := bn1 (iter (fun v : Int32 × St => bX5_goes_53 sh FG a1 a2 v.1 v.2) FU (a3, σ)) (fun ex => xX5_goes_53 sh FG a1 a2 ex)
def fX5_goes (sh : Nat → Sh) (FG : Int32 → Int32 → St → Option St) (a1 : Int32) (a2 : Int32) (σ : St) : Option (St) := bn1 (fJ2_size sh 8 (σ)) (fun r1 => if a1 = ((1 <<< (r1 &&& 31)) - 1) then if a2 < (gI σ 49 4) then letB (pI σ 49 4 a2) (fun σ4 => ckC 0 0 8 8 8 (letB (pC σ4 50 52 (0 : Int32).toNatClampNeg (0 : Int32).toNatClampNeg (8 : Int32).toNatClampNeg) (fun σ5 => some σ5))) else some σ else fX5_goes_53 sh FG a1 a2 0 (σ))
def fGate (sh : Nat → Sh) : Nat → Int32 → Int32 → St → Option St
  | 0, _, _, _ => none
  | n + 1, a, b, σ => fX5_goes sh (fGate sh n) a b σ
-- X5_looks
def bX5_looks_13 (sh : Nat → Sh) (a2 : Int32) (σ : St) : Option ((St) ⊕ (Int32 × St)) := if 3 ≤ a2 then some (.inl (σ)) else ckB a2 3 (letB (pA σ 53 a2.toNatClampNeg 0) (fun σ3 => letB (a2 + 1) (fun x4 => some (.inr (x4, σ3)))))
def xX5_looks_13 (sh : Nat → Sh)  (ex : St) : Option (St) := bn1 (fGate sh 10 0 0 (ex)) (fun σ2 => some σ2)
def fX5_looks_13 (sh : Nat → Sh) (a2 : Int32) (σ : St) : Option (St) := bn1 (iter (fun v : Int32 × St => bX5_looks_13 sh v.1 v.2) FU (a2, σ)) (fun ex => xX5_looks_13 sh ex)
def fX5_looks (sh : Nat → Sh) (a1 : Int32) (σ : St) : Option (St) := letB (pI σ 49 5 a1) (fun σ1 => letB (pI σ1 49 4 1000000) (fun σ2 => fX5_looks_13 sh 0 (σ2)))
-- X0_soonest
def fX0_soonest (sh : Nat → Sh) (a1 : Int32) (a2 : Int32) (σ : St) : Option (Int32 × St) := bn1 (fJ2_size sh 8 (σ)) (fun r1 => if r1 = 0 then some ((-1), σ) else bn1 (fX0_in a1 1 3) (fun r3 => if r3 = 0 then some ((-1), σ) else bn1 (fX0_in a2 (-1) (r1 - 1)) (fun r5 => if r5 = 0 then some ((-1), σ) else bn1 (fX5_looks sh a1 (σ)) (fun σ8 => if a2 = (-1) then some (gI σ8 49 4, σ8) else ckB a2 8 (some (gA σ8 52 a2.toNatClampNeg, σ8))))))
