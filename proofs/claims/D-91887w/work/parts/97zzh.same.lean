/-! the plain law: a sign is the same on both sides -/
set_option maxRecDepth 100000
theorem l64_step {x : Int64} {v : Int32} {a d m c : Nat} (hx : x.toInt = a) (hv : v.toInt = (d + c : Nat)) (hm : m ≤ 32) (hc : c < 100) (ha : a < 1125899906842624) (hd : d < 1000) : (x * Int64.ofNat m + v.toInt64 - Int64.ofNat c).toInt = (a * m + d : Nat) := by
  have e1 : (Int64.ofNat m).toInt = m := Int64.toInt_ofNat_of_lt (by omega)
  have e2 : (Int64.ofNat c).toInt = c := Int64.toInt_ofNat_of_lt (by omega)
  have b : a * m ≤ 1125899906842624 * 32 := Nat.mul_le_mul (by omega) hm
  have e3 : (x * Int64.ofNat m).toInt = (a * m : Nat) := by
    rw [Int64.toInt_mul, hx, e1, ← Int.natCast_mul]
    exact Int.bmod_eq_of_le (by omega) (by omega)
  have e4 : (x * Int64.ofNat m + v.toInt64).toInt = (a * m + (d + c) : Nat) := by
    rw [Int64.toInt_add, e3, ti64, hv]
    rw [← Int.natCast_add]
    exact Int.bmod_eq_of_le (by omega) (by omega)
  rw [Int64.toInt_sub, e4, e2]
  rw [show ((a * m + (d + c) : Nat) : Int) - (c : Int) = ((a * m + d : Nat) : Int) by omega]
  exact Int.bmod_eq_of_le (by omega) (by omega)
def dcN (d : Nat → Nat) : Nat → Nat
  | 0 => 0
  | k + 1 => dcN d k * 32 + d k
theorem dcN_b {d : Nat → Nat} (hd : ∀ k, d k < 32) : ∀ k, dcN d k < 32 ^ k := by
  intro k
  induction k with
  | zero => exact Nat.one_pos
  | succ k ih => have := hd k; show dcN d k * 32 + d k < 32 ^ k * 32; omega
theorem dcN_inj {d e : Nat → Nat} : ∀ k l, (∀ j, j < k → 1 ≤ d j ∧ d j < 32) → (∀ j, j < l → 1 ≤ e j ∧ e j < 32) → dcN d k = dcN e l → k = l ∧ ∀ j, j < k → d j = e j := by
  intro k
  induction k with
  | zero =>
    intro l _ he h
    cases l with
    | zero => exact ⟨rfl, fun j hj => absurd hj (Nat.not_lt_zero j)⟩
    | succ l => have := he l (Nat.lt_succ_self l); have h : 0 = dcN e l * 32 + e l := h; omega
  | succ k ih =>
    intro l hd he h
    cases l with
    | zero => have := hd k (Nat.lt_succ_self k); have h : dcN d k * 32 + d k = 0 := h; omega
    | succ l =>
      have h : dcN d k * 32 + d k = dcN e l * 32 + e l := h
      have h1 := hd k (Nat.lt_succ_self k)
      have h2 := he l (Nat.lt_succ_self l)
      obtain ⟨e1, e2⟩ := ih l (fun j hj => hd j (by omega)) (fun j hj => he j (by omega)) (by omega)
      refine ⟨by rw [e1], fun j hj => ?_⟩
      by_cases z : j = k
      · rw [z]
        have : d k = e l := by omega
        rw [this, e1]
      · exact e2 j (by omega)
/-- a letter's number -/
def lt (v : Int32) : Nat := v.toInt.toNat - 96
theorem sm_lt {v : Int32} (h : cSm v = true) : v.toInt = (lt v + 96 : Nat) ∧ 1 ≤ lt v ∧ lt v < 32 := by
  obtain ⟨h1, h2⟩ := of_decide_eq_true h
  rw [Int32.le_iff_toInt_le] at h1 h2
  have e1 : (97 : Int32).toInt = 97 := by decide
  have e2 : (122 : Int32).toInt = 122 := by decide
  unfold lt
  omega
theorem wWd_v {T : Nat → Int32} {fr : Nat} : ∀ k, k ≤ 10 → (∀ j, j < k → cSm (T (fr + j)) = true) → (wWd T fr k).toInt = dcN (fun j => lt (T (fr + j))) k ∧ dcN (fun j => lt (T (fr + j))) k < 32 ^ k := by
  intro k
  induction k with
  | zero => intro _ _; exact ⟨rfl, Nat.one_pos⟩
  | succ k ih =>
    intro hk h
    obtain ⟨e1, e2⟩ := ih (by omega) (fun j hj => h j (by omega))
    have hl := sm_lt (h k (Nat.lt_succ_self k))
    have hp : 32 ^ k ≤ 32 ^ 9 := Nat.pow_le_pow_right (by omega) (by omega)
    have hB : dcN (fun j => lt (T (fr + j))) k < 1125899906842624 := Nat.lt_of_lt_of_le e2 (Nat.le_trans hp (by decide))
    constructor
    · show (if k < 10 then wWd T fr k * 32 + (T (fr + k)).toInt64 - 96 else -1).toInt = _
      rw [if_pos (by omega)]
      exact l64_step (m := 32) (c := 96) e1 hl.1 (Nat.le_refl _) (by decide) hB (Nat.lt_trans hl.2.2 (by decide))
    · show dcN (fun j => lt (T (fr + j))) k * 32 + lt (T (fr + k)) < 32 ^ k * 32
      omega
theorem wWd_long {T : Nat → Int32} {fr : Nat} : ∀ k, 11 ≤ k → wWd T fr k = -1 := by
  intro k hk
  obtain ⟨m, rfl⟩ := Nat.exists_eq_add_of_le' (show 1 ≤ k by omega)
  show (if m < 10 then _ else (-1 : Int64)) = -1
  rw [if_neg (by omega)]
/-- where the sign at fr ends -/
def tkE (T : Nat → Int32) (n fr : Nat) : Nat := if fr < n then (if cSm (T fr) = true then endP cSm T n fr else if cDg (T fr) = true then endP cDg T n fr else fr + 1) else fr
theorem nxT_tk (T : Nat → Int32) (n t : Nat) : nxT T n t = tkE T n (nxF T n t) := rfl
/-- the i-th word's number -/
def wN (i : Nat) : Nat := dcN (fun j => lt (sCh i (I j))) (sL i)
def isWd (i : Nat) : Prop := ∀ j, j < sL i → cSm (sCh i (I j)) = true
section TK
variable {T : Nat → Int32} {n fr to : Nat} {σ : St}
theorem neg1 : (-1 : Int64).toInt = -1 := by decide
theorem so_1 {T : Nat → Int32} {n fr : Nat} (q1 : sO T n fr = 1) : fr < n ∧ cSm (T fr) = true := by
  unfold sO at q1
  by_cases y : fr < n
  · rw [if_pos y] at q1
    by_cases z : cSm (T fr) = true
    · exact ⟨y, z⟩
    · rw [if_neg z] at q1
      by_cases y2 : cDg (T fr) = true
      · rw [if_pos y2] at q1; exact absurd q1 (by decide)
      · rw [if_neg y2] at q1; exact absurd q1 (by decide)
  · rw [if_neg y] at q1; exact absurd q1 (by decide)
theorem word_inj {i : Nat} {w : Int64} (hL : sL i ≤ 8) (hw : isWd i) (hN : w.toInt = wN i) (hf : fr < n) (h0 : cSm (T fr) = true) (hto : to = tkE T n fr) (q2 : wO T n fr to = w) : isS T i fr to = true := by
  have hto : to = endP cSm T n fr := by rw [hto]; unfold tkE; rw [if_pos hf, if_pos h0]
  have hE := endP_s cSm T n fr
  rw [← hto] at hE
  have q3 : wWd T fr (to - fr) = w := by rw [← q2]; unfold wO; rw [if_pos hf, if_pos h0]
  by_cases y : 11 ≤ to - fr
  · exfalso
    have e := neg1
    rw [← wWd_long (T := T) (fr := fr) _ y, q3, hN] at e
    omega
  · have hsm : ∀ j, j < to - fr → cSm (T (fr + j)) = true := fun j hj => (hE.2.2.1 (fr + j) (by omega) (by omega)).2
    have hv := (wWd_v (to - fr) (by omega) hsm).1
    rw [q3, hN] at hv
    obtain ⟨e1, e2⟩ := dcN_inj (to - fr) (sL i) (fun j hj => (sm_lt (hsm j hj)).2) (fun j hj => (sm_lt (hw j hj)).2) (Int.ofNat_inj.mp hv).symm
    refine isS_t.mpr ⟨by omega, fun k hk => ?_⟩
    have a1 := (sm_lt (hsm k (by omega))).1
    have a2 := (sm_lt (hw k hk)).1
    rw [e2 k (by omega)] at a1
    exact Int32.toInt_inj.mp (a1.trans a2.symm)
theorem dcN_s (d : Nat → Nat) (k : Nat) : dcN d (k + 1) = dcN d k * 32 + d k := rfl
theorem dcN_c {d e : Nat → Nat} : ∀ k, (∀ j, j < k → d j = e j) → dcN d k = dcN e k := by
  intro k
  induction k with
  | zero => intro _; rfl
  | succ k ih =>
    intro h
    rw [dcN_s, dcN_s, ih (fun j hj => h j (by omega)), h k (Nat.lt_succ_self k)]
theorem word_dc {i : Nat} (z2 : ∀ k, k < sL i → T (fr + k) = sCh i (I k)) : dcN (fun j => lt (T (fr + j))) (sL i) = dcN (fun j => lt (sCh i (I j))) (sL i) :=
  dcN_c (sL i) (fun j hj => congrArg lt (z2 j hj))
theorem word_0 {i : Nat} (hL : 1 ≤ sL i) (hw : isWd i) (z2 : ∀ k, k < sL i → T (fr + k) = sCh i (I k)) : cSm (T fr) = true := by
  have e := hw 0 hL
  have e2 := z2 0 hL
  rw [← e2] at e
  exact e
theorem word_pos {i : Nat} {w : Int64} (hL : sL i ≤ 8 ∧ 1 ≤ sL i) (hw : isWd i) (hN : w.toInt = wN i) (htn : to ≤ n) (z1 : to = fr + sL i) (z2 : ∀ k, k < sL i → T (fr + k) = sCh i (I k)) : sO T n fr = 1 ∧ wO T n fr to = w := by
  have hf : fr < n := by omega
  have h0 := word_0 hL.2 hw z2
  have hsm : ∀ j, j < sL i → cSm (T (fr + j)) = true := fun j hj => by rw [z2 j hj]; exact hw j hj
  have hv := (wWd_v (sL i) (by omega) hsm).1
  constructor
  · unfold sO; rw [if_pos hf, if_pos h0]
  · unfold wO
    rw [if_pos hf, if_pos h0, z1, Nat.add_sub_cancel_left]
    refine Int64.toInt_inj.mp ?_
    rw [hv, hN]
    unfold wN
    rw [word_dc z2]
theorem m_word {i : Nat} {w : Int64} (hi : i < 27) (hw : isWd i) (hN : w.toInt = wN i) (hto : to = tkE T n fr) (htn : to ≤ n) (hs : gI σ 0 10 = sO T n fr) (ho : gL σ 0 11 = wO T n fr to) : fX6_isWord w σ = some (if isS T i fr to = true then 1 else 0) := by
  have hL := (sL_sh i hi).2
  unfold fX6_isWord
  rw [hs, ho]
  by_cases z : isS T i fr to = true
  · obtain ⟨z1, z2⟩ := isS_t.mp z
    obtain ⟨y1, y2⟩ := word_pos hL hw hN htn z1 z2
    rw [if_pos z, if_pos y1, if_pos y2]
  · rw [if_neg z]
    by_cases q1 : sO T n fr = 1
    · rw [if_pos q1]
      by_cases q2 : wO T n fr to = w
      · obtain ⟨hf, h0⟩ := so_1 q1
        exact absurd (word_inj hL.1 hw hN hf h0 hto q2) z
      · rw [if_neg q2]
    · rw [if_neg q1]
theorem m_sign {i : Nat} {c : Int32} (hi : i < 27) (h1 : sL i = 1) (hc : sCh i (I 0) = c) (hns : cSm c = false) (hnd : cDg c = false) (hc0 : 0 ≤ c.toInt) (hc1 : c.toInt < 128) (hT : ∀ i, i < n → isBy (T i)) (hto : to = tkE T n fr) (htn : to ≤ n) (hs : gI σ 0 10 = sO T n fr) (ho : gL σ 0 11 = wO T n fr to) : fX6_isSign c σ = some (if isS T i fr to = true then 1 else 0) := by
  unfold fX6_isSign
  rw [hs, ho]
  by_cases z : isS T i fr to = true
  · rw [if_pos z]
    obtain ⟨z1, z2⟩ := isS_t.mp z
    have hf : fr < n := by omega
    have e : T fr = c := (z2 0 (by omega)).trans hc
    have n1 : ¬ cSm (T fr) = true := by rw [e, hns]; decide
    have n2 : ¬ cDg (T fr) = true := by rw [e, hnd]; decide
    have hs1 : sO T n fr = 3 := by unfold sO; rw [if_pos hf, if_neg n1, if_neg n2]
    have ho1 : wO T n fr to = (T fr &&& 255).toInt64 := by unfold wO; rw [if_pos hf, if_neg n1, if_neg n2]
    rw [hs1, ho1, if_pos rfl, if_pos (by rw [(by_eq (hT fr hf) hc0 hc1).mpr e])]
  · rw [if_neg z]
    by_cases q1 : sO T n fr = 3
    · rw [if_pos q1]
      by_cases q2 : wO T n fr to = c.toInt64
      · exfalso
        have hf : fr < n := by
          by_cases y : fr < n
          · exact y
          · unfold sO at q1; rw [if_neg y] at q1; exact absurd q1 (by decide)
        have n1 : ¬ cSm (T fr) = true := fun y => by unfold sO at q1; rw [if_pos hf, if_pos y] at q1; exact absurd q1 (by decide)
        have n2 : ¬ cDg (T fr) = true := fun y => by unfold sO at q1; rw [if_pos hf, if_neg n1, if_pos y] at q1; exact absurd q1 (by decide)
        unfold wO at q2
        rw [if_pos hf, if_neg n1, if_neg n2] at q2
        have q3 : T fr &&& 255 = c := by
          refine Int32.toInt_inj.mp ?_
          rw [← ti64, ← ti64, q2]
        have q4 := (by_eq (hT fr hf) hc0 hc1).mp q3
        refine z (isS_t.mpr ⟨by rw [hto, h1]; unfold tkE; rw [if_pos hf, if_neg n1, if_neg n2], fun k hk => ?_⟩)
        rw [show k = 0 by omega, hc]
        exact q4
      · rw [if_neg q2]
    · rw [if_neg q1]
end TK
