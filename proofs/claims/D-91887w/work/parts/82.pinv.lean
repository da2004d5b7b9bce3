/-! the plain law: the invariant between both sides -/
set_option maxRecDepth 100000
/-! trees: a sum's or a test's meaning is a code, signs behind what they join -/
def SumC (F : Nat → Prop) (σ : St) (sh : Nat → Sh) : Nat → Nat → List (Int32 × Int32) → Prop
  | 0, _, _ => False
  | n + 1, a, c => F a ∧ ((sh a = xD10 ∧ c = [(0, gI σ a 0)]) ∨ (sh a = xD11 ∧ ∃ w : Nat, w < 4 ∧ gI σ a 0 = I w ∧ c = [(I (w + 1), 0)]) ∨
      (∃ b d, gR σ a 0 = some b ∧ SumC F σ sh n b d ∧ ((sh a = xD12 ∧ c = d ++ [(32, 0)]) ∨ (sh a = xD13 ∧ c = d ++ [(33, 0)]))) ∨
      (sh a = xD14 ∧ ∃ b1 b2 d1 d2, gR σ a 1 = some b1 ∧ gR σ a 2 = some b2 ∧ SumC F σ sh n b1 d1 ∧ SumC F σ sh n b2 d2 ∧ ((gI σ a 0 = 1 ∧ c = d1 ++ d2 ++ [(20, 0)]) ∨ (gI σ a 0 = 0 ∧ c = d1 ++ d2 ++ [(21, 0)]))))
/-- a list of n elements in the array e -/
def LstC (σ : St) (sh : Nat → Sh) (l e n : Nat) : Prop := sh l = xD24 ∧ gR σ l 1 = some e ∧ (∃ len, sh e = (2, 3, len, []) ∧ n ≤ len ∧ len ≤ 1000 ∧ 1 ≤ len) ∧ gI σ l 2 = I n ∧ n ≤ 1000
/-- several codes joined by op -/
def sevC (op : Int32) : List (List (Int32 × Int32)) → List (Int32 × Int32)
  | [] => []
  | d :: ds => ds.foldl (fun acc x => acc ++ x ++ [(op, 0)]) d
/-- an even number of nots -/
def nn : Nat → List (Int32 × Int32)
  | 0 => []
  | m + 1 => nn m ++ [(27, 0), (27, 0)]
def TestC (F : Nat → Prop) (σ : St) (sh : Nat → Sh) : Nat → Nat → List (Int32 × Int32) → Prop
  | 0, _, _ => False
  | n + 1, a, cc => ∃ (m : Nat) (c : List (Int32 × Int32)), cc = c ++ nn m ∧ F a ∧ ((sh a = xD20 ∧ ∃ b1 b2 d1 d2, gR σ a 1 = some b1 ∧ gR σ a 2 = some b2 ∧ SumC F σ sh 125 b1 d1 ∧ SumC F σ sh 125 b2 d2 ∧ ((gI σ a 0 = 60 ∧ c = d1 ++ d2 ++ [(24, 0)]) ∨ (gI σ a 0 = 62 ∧ c = d1 ++ d2 ++ [(25, 0)]) ∨ (gI σ a 0 = 61 ∧ c = d1 ++ d2 ++ [(26, 0)]))) ∨
      (sh a = xD21 ∧ ∃ b d, gR σ a 0 = some b ∧ TestC F σ sh n b d ∧ c = d ++ [(27, 0)]) ∨
      (sh a = xD22 ∧ ∃ l e ds, gR σ a 1 = some l ∧ F l ∧ F e ∧ LstC σ sh l e ds.length ∧ 1 ≤ ds.length ∧ (∀ i d, ds[i]? = some d → ∃ b, gR σ e i = some b ∧ TestC F σ sh n b d) ∧ ((gI σ a 0 = 1 ∧ c = sevC 28 ds) ∨ (gI σ a 0 = 0 ∧ c = sevC 29 ds))))
/-- the signs of c stand in the row from the number lo to the number hi -/
def codeAt (f : Nat → Int32) (lo hi : Int32) (c : List (Int32 × Int32)) : Prop := ∃ k : Nat, lo = I k ∧ hi = I (k + c.length) ∧ k + c.length ≤ 400 ∧ ∀ i q, c[i]? = some q → f (180 + 2 * (k + i)) = q.1 ∧ f (181 + 2 * (k + i)) = q.2
/-- a step of sort s: at, to, when -/
def stepSh : Nat → Sh
  | 0 => xD9
  | 1 => xD19
  | 2 => xD15
  | 3 => xD16
  | 4 => xD17
  | _ => xD18
def StepC (F : Nat → Prop) (σ : St) (sh : Nat → Sh) (f : Nat → Int32) (k a : Nat) : Prop :=
  F a ∧ ∃ s : Nat, s ≤ 5 ∧ sh a = stepSh s ∧ f (10 + 10 * k) = I s ∧
    (∃ b, gR σ a 0 = some b ∧ ((s ≠ 5 ∧ ∃ c, SumC F σ sh 125 b c ∧ codeAt f (f (11 + 10 * k)) (f (12 + 10 * k)) c) ∨ (s = 5 ∧ F b ∧ sh b = xD10 ∧ codeAt f (f (11 + 10 * k)) (f (12 + 10 * k)) [] ∧ gI σ b 0 = f (17 + 10 * k) ∧ 0 ≤ (f (17 + 10 * k)).toInt ∧ (f (17 + 10 * k)).toInt ≤ 15))) ∧
    ((s = 1 ∧ ∃ b c, gR σ a 2 = some b ∧ SumC F σ sh 125 b c ∧ codeAt f (f (12 + 10 * k)) (f (13 + 10 * k)) c) ∨ (s ≠ 1 ∧ codeAt f (f (12 + 10 * k)) (f (13 + 10 * k)) [])) ∧
    ((gR σ a 1 = none ∧ codeAt f (f (13 + 10 * k)) (f (14 + 10 * k)) []) ∨ ∃ t c, gR σ a 1 = some t ∧ TestC F σ sh 40 t c ∧ c ≠ [] ∧ codeAt f (f (13 + 10 * k)) (f (14 + 10 * k)) c)
/-- a recipe: its list of steps -/
def RcpC (F : Nat → Prop) (σ : St) (sh : Nat → Sh) (f : Nat → Int32) (l : Nat) : Prop := ∃ e n, F l ∧ F e ∧ n ≤ 16 ∧ 1 ≤ n ∧ f 0 = I n ∧ LstC σ sh l e n ∧ ∀ k, k < n → ∃ a, gR σ e k = some a ∧ StepC F σ sh f k a
/-- a piece -/
def PieC (F : Nat → Prop) (σ : St) (sh : Nat → Sh) (f : Nat → Int32) (i a : Nat) : Prop := F a ∧ sh a = xD23 ∧ gI σ a 0 = f (40 + 2 * i) ∧ gI σ a 1 = f (41 + 2 * i) ∧ 1 ≤ (f (40 + 2 * i)).toInt ∧ (f (40 + 2 * i)).toInt ≤ 200 ∧ -1 ≤ (f (41 + 2 * i)).toInt ∧ (f (41 + 2 * i)).toInt < i
/-! what was told: numbers -/
def cfgR (cells tongs : Int32) (bar shape terms f : Nat → Int32) : Prop := cells = f 0 ∧ tongs = f 3 ∧ (∀ c, c < 5 → bar c = f (20 + c)) ∧ (∀ c, c < 5 → shape c = f (30 + c)) ∧ ∀ k, k < 5 → terms k = f (10 + k)
def cfgB (f : Nat → Int32) : Prop := (3 ≤ (f 0).toInt ∧ (f 0).toInt ≤ 5) ∧ (2 ≤ (f 3).toInt ∧ (f 3).toInt ≤ 1022 ∧ f 3 &&& 1 = 0) ∧ (∀ c, c < 5 → 1 ≤ (f (20 + c)).toInt ∧ (f (20 + c)).toInt ≤ 9) ∧ (∀ c, c < 5 → 1 ≤ (f (30 + c)).toInt ∧ (f (30 + c)).toInt ≤ 9) ∧
  (1 ≤ (f 10).toInt ∧ (f 10).toInt ≤ 4) ∧ (0 ≤ (f 11).toInt ∧ (f 11).toInt ≤ 100) ∧ (0 ≤ (f 12).toInt ∧ (f 12).toInt ≤ 60) ∧ (0 ≤ (f 13).toInt ∧ (f 13).toInt ≤ 60) ∧ 0 ≤ (f 14).toInt ∧ (f 14).toInt ≤ 50
/-- the lists of a State -/
def lstsR (F : Nat → Prop) (σ : St) (sh : Nat → Sh) (w : Nat → Nat) (f : Nat → Int32) : Prop :=
  (∃ n, n ≤ 8 ∧ f 1 = I n ∧ LstC σ sh (w 3) (w 5) n ∧ (∀ i, i < n → ∃ r, gR σ (w 5) i = some r ∧ RcpC F σ sh (fun k => f (60 + 1000 * i + k)) r) ∧ ∀ i, n ≤ i → gR σ (w 5) i = none) ∧
  ∃ n, n ≤ 8 ∧ f 2 = I n ∧ LstC σ sh (w 4) (w 6) n ∧ (∀ i, i < n → ∃ q, gR σ (w 6) i = some q ∧ PieC F σ sh f i q) ∧ ∀ i, n ≤ i → gR σ (w 6) i = none
/-- a State (its cells w 0 .. w 6: bar, shape, terms, recipes, pieces, their arrays) against a row -/
def StR (F : Nat → Prop) (σ : St) (sh : Nat → Sh) (w : Nat → Nat) (cells tongs : Int32) (f : Nat → Int32) : Prop :=
  cfgR cells tongs (gA σ (w 0)) (gA σ (w 1)) (gA σ (w 2)) f ∧ cfgB f ∧ (sh (w 0) = (1, 0, 5, []) ∧ sh (w 1) = (1, 0, 5, []) ∧ sh (w 2) = (1, 0, 5, [])) ∧ lstsR F σ sh w f
/-- the main State's cells -/
def w0 (er ep : Nat) : Nat → Nat
  | 0 => 3
  | 1 => 4
  | 2 => 5
  | 3 => 6
  | 4 => 8
  | 5 => er
  | _ => ep
/-- an image: kept on both sides, or on none; O: its own cells -/
def ImR (F : Nat → Prop) (σ : St) (sh : Nat → Sh) (σm : St) (k : Nat) (O : List Nat) : Prop :=
  (gA σm 4 k = 0 ∧ gR σ 10 k = none ∧ O = []) ∨
  (gA σm 4 k = 1 ∧ ∃ sc w, gR σ 10 k = some sc ∧ sh sc = xD1 ∧ (∀ j, j < 5 → gR σ sc j = some (w j)) ∧ O = [sc, w 0, w 1, w 2, w 3, w 4, w 5, w 6] ∧ StR F σ sh w (gI σ sc 5) (gI σ sc 6) (fun i => gA σm 3 (8060 * k + i)))
/-- all that was told; F: the frozen cells -/
def PSt (σ : St) (η : Eta) (σm : St) : Prop := ∃ (F : Nat → Prop) (er ep : Nat) (O1 O2 : List Nat),
  StR F σ η.1 (w0 er ep) (gI σ 2 5) (gI σ 2 6) (gA σm 2) ∧ ImR F σ η.1 σm 0 O1 ∧ ImR F σ η.1 σm 1 O2 ∧ (er :: ep :: (O1 ++ O2)).Nodup ∧ (∀ c, F c → 54 ≤ c ∧ c < η.2.1 ∧ c ∉ er :: ep :: (O1 ++ O2)) ∧ (∀ c, c ∈ O1 ++ O2 → 54 ≤ c ∧ c < η.2.1) ∧ (er = 7 ∨ 54 ≤ er) ∧ (ep = 9 ∨ 54 ≤ ep) ∧ er < η.2.1 ∧ ep < η.2.1
/-- the tape -/
def PTape (σ σm : St) : Prop := gI σ 0 5 = gI σm 0 7 ∧ ∃ k : Nat, k ≤ 400 ∧ gI σ 0 5 = I k ∧ ∀ i, i < k → (-128 ≤ (gA σ 11 i).toInt ∧ (gA σ 11 i).toInt ≤ 127) ∧ gA σm 5 i = gA σ 11 i &&& 255
/-- the latest run -/
def PRan (σ σm : St) : Prop := (gI σ 0 11 = 0 ∧ gI σm 0 45 = 0) ∨
  (gI σ 0 11 = 1 ∧ gI σ 12 3 = gI σm 0 45 ∧ (3 ≤ (gI σm 0 45).toInt ∧ (gI σm 0 45).toInt ≤ 5) ∧ (∀ c : Nat, (c : Int) < (gI σm 0 45).toInt → gA σ 13 c = gA σm 14 c) ∧ (∀ c, c < 5 → gA σ 15 c = gA σm 16 c) ∧
    (gI σ 12 9 = gA σm 15 0 ∧ gI σ 12 10 = gA σm 15 1 ∧ gI σ 12 11 = gA σm 15 2 ∧ gI σ 12 12 = gA σm 15 3 ∧ gI σ 12 13 = gA σm 15 4 ∧ gI σ 12 14 = gA σm 15 5 ∧ gI σ 12 21 = gA σm 15 6 ∧ gI σ 12 15 = gA σm 15 7 ∧ gI σ 12 16 = gA σm 15 8 ∧ gI σ 12 17 = gA σm 15 9 ∧ gI σ 12 18 = gA σm 15 10 ∧ gI σ 12 19 = gA σm 15 11) ∧
    (0 ≤ (gA σm 15 9).toInt ∧ (gA σm 15 9).toInt < 16) ∧ ∀ c, c < 5 → 0 ≤ (gA σm 16 c).toInt ∧ (gA σm 16 c).toInt ≤ 100 ∧ ((gA σm 15 9 >>> I c) &&& 1 = 1 → 30 ≤ (gA σm 16 c).toInt))
/-! plans -/
/-- how often a call may look for what a heat leads to, at most -/
def KM : Nat := 16000000
def stampOK (mark : Int32) (seen : Nat → Int32) (j : Nat) : Prop := 0 ≤ mark.toInt ∧ mark.toInt ≤ KM * j ∧ ∀ r, r < 59049 → 0 ≤ (seen r).toInt ∧ (seen r).toInt ≤ mark.toInt
def nOf (f : Nat → Int32) : Nat := (f 0).toInt.toNat
def tgOf (f : Nat → Int32) : Nat := (f 3).toInt.toNat
def blOf (f : Nat → Int32) : Nat := (f 10).toInt.toNat
def powOK (n : Nat) (pw : Nat → Int32) : Prop := ∀ c, c < n → pw c = I (9 ^ (n - 1 - c))
/-- the plan for what the row f tells -/
def planOK (f : Nat → Int32) (H : Int32) (pw places rows : Nat → Int32) : Prop :=
  hts (nOf f) (tgOf f) (blOf f) (rowN (nOf f) f 20) (rowN (nOf f) f 30) H.toInt ∧ (0 ≤ H.toInt → powOK (nOf f) pw ∧ ∃ cell row, cellsOK (nOf f) (tgOf f) (blOf f) (rowN (nOf f) f 20) (rowN (nOf f) f 30) H.toInt.toNat cell ∧ rowsOK (nOf f) (tgOf f) (blOf f) (rowN (nOf f) f 20) (rowN (nOf f) f 30) H.toInt.toNat cell row ∧ (∀ i, i < H.toInt.toNat → places i = I (cell i)) ∧ ∀ i, i ≤ H.toInt.toNat → 1 ≤ H.toInt → rows i = I (row i))
/-- x's Plans and what is kept of a search -/
def PlX (j : Nat) (σ : St) (f : Nat → Int32) : Prop :=
  stampOK (gI σ 24 13) (gA σ 28) j ∧ stampOK (gI σ 35 13) (gA σ 39) j ∧ (∃ v : Nat, v ≤ 2 * j ∧ gI σ 0 7 = I v ∧ (-1 ≤ (gI σ 24 14).toInt ∧ (gI σ 24 14).toInt ≤ v) ∧ -1 ≤ (gI σ 0 14).toInt ∧ (gI σ 0 14).toInt ≤ v) ∧
  (gI σ 24 14 = gI σ 0 7 → planOK f (gI σ 24 15) (gA σ 31) (gA σ 33) (gA σ 34)) ∧
  (gI σ 0 14 = gI σ 0 7 → (0 ≤ (gI σ 0 15).toInt ∧ (gI σ 0 15).toInt ≤ 6) ∧ ∀ h : Nat, h ≤ (gI σ 0 15).toInt.toNat → gA σ 43 h = I (cnt (lev (nOf f) (tgOf f) (blOf f) (rowN (nOf f) f 20) h) 59049))
/-- the model's -/
def PlM (j : Nat) (σm : St) : Prop :=
  stampOK (gI σm 0 56) (gA σm 23) j ∧
  (gI σm 0 60 = -2 ∨ planOK (gA σm 2) (gI σm 0 60) (gA σm 18) (gA σm 25) (gA σm 26)) ∧
  (-1 ≤ (gI σm 0 59).toInt ∧ (gI σm 0 59).toInt ≤ 6 ∧ ∀ h v : Nat, h ≤ (gI σm 0 59).toInt → v < 59049 → (0 ≤ (gA σm 19 v).toInt ∧ (gA σm 19 v).toInt < 128) ∧ ((gA σm 19 v).toInt.toNat >>> h % 2 = 1 ↔ lev (nOf (gA σm 2)) (tgOf (gA σm 2)) (blOf (gA σm 2)) (rowN (nOf (gA σm 2)) (gA σm 2) 20) h v))
/-- THE INVARIANT, behind j calls -/
def PI (j : Nat) (σ : St) (η : Eta) (σm : St) : Prop :=
  (XOK (ksOf η) η.1 ∧ wfE η) ∧ gI σ 0 0 = gI σm 0 1 ∧ (∀ i, i < 7 → gA σ 1 i = gA σm 1 i) ∧ PTape σ σm ∧ gI σ 0 6 = gI σm 0 12 ∧ PSt σ η σm ∧ PRan σ σm ∧ PlX j σ (gA σm 2) ∧ PlM j σm
theorem PI_xok : ∀ j σ η σm, PI j σ η σm → XOK (ksOf η) η.1 := fun _ _ _ _ h => h.1.1
theorem PI_bump : ∀ j σ η σm n z, PI j σ η σm → η.2.1 ≤ n → PI j σ (η.1, n, z) σm := by
  intro j σ η σm n z h hn
  obtain ⟨⟨hX, hw⟩, h1, h2, h3, h4, h5, h6⟩ := h
  refine ⟨⟨by rw [ks_bump hw hn]; exact hX, fun k hk => hw k (Nat.le_trans hn hk)⟩, h1, h2, h3, h4, ?_, h6⟩
  obtain ⟨F, er, ep, O1, O2, a1, a2, a3, a4, a5, a6, a7, a8, a9, a10⟩ := h5
  exact ⟨F, er, ep, O1, O2, a1, a2, a3, a4, fun c hc => ⟨(a5 c hc).1, Nat.lt_of_lt_of_le (a5 c hc).2.1 hn, (a5 c hc).2.2⟩, fun c hc => ⟨(a6 c hc).1, Nat.lt_of_lt_of_le (a6 c hc).2 hn⟩, a7, a8, Nat.lt_of_lt_of_le a9 hn, Nat.lt_of_lt_of_le a10 hn⟩
theorem stampOK.more {mark : Int32} {seen : Nat → Int32} {j j' : Nat} (h : stampOK mark seen j) (hj : j ≤ j') : stampOK mark seen j' := by
  obtain ⟨h1, h2, h3⟩ := h
  refine ⟨h1, Int.le_trans h2 ?_, h3⟩
  have := Nat.mul_le_mul_left KM hj
  omega
theorem PlX.more {j j' : Nat} {σ : St} {f : Nat → Int32} (h : PlX j σ f) (hj : j ≤ j') : PlX j' σ f := by
  obtain ⟨h1, h2, ⟨v, h3, h4⟩, h5⟩ := h
  exact ⟨h1.more hj, h2.more hj, ⟨v, by omega, h4⟩, h5⟩
theorem PlM.more {j j' : Nat} {σm : St} (h : PlM j σm) (hj : j ≤ j') : PlM j' σm := ⟨h.1.more hj, h.2⟩
theorem PI_more : ∀ j σ η σm, PI j σ η σm → PI (j + 1) σ η σm := by
  intro j σ η σm h
  obtain ⟨h0, h1, h2, h3, h4, h5, h6, h7, h8⟩ := h
  exact ⟨h0, h1, h2, h3, h4, h5, h6, h7.more (Nat.le_succ j), h8.more (Nat.le_succ j)⟩
