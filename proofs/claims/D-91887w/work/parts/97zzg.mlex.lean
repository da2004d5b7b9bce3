/-! the plain law: the recipe's signs, the model's side -/
set_option maxRecDepth 100000
theorem by_all : ∀ k : Fin 256, (0 ≤ (Int32.ofInt ((k.val : Int) - 128)).toInt → Int32.ofInt ((k.val : Int) - 128) &&& 255 = Int32.ofInt ((k.val : Int) - 128)) ∧ ((Int32.ofInt ((k.val : Int) - 128)).toInt < 0 → 128 ≤ (Int32.ofInt ((k.val : Int) - 128) &&& 255).toInt ∧ (Int32.ofInt ((k.val : Int) - 128) &&& 255).toInt ≤ 255) := by decide +kernel
def isBy (v : Int32) : Prop := -128 ≤ v.toInt ∧ v.toInt ≤ 127
theorem by_s {v : Int32} (h : isBy v) : (0 ≤ v.toInt → v &&& 255 = v) ∧ (v.toInt < 0 → 128 ≤ (v &&& 255).toInt ∧ (v &&& 255).toInt ≤ 255) := by
  have := by_all ⟨(v.toInt + 128).toNat, by have := h.1; have := h.2; omega⟩
  have e : Int32.ofInt ((((v.toInt + 128).toNat : Nat) : Int) - 128) = v := by
    rw [show (((v.toInt + 128).toNat : Nat) : Int) - 128 = v.toInt by have := h.1; omega]
    exact Int32.ofInt_toInt v
  rw [e] at this
  exact this
theorem by_in {v : Int32} (h : isBy v) {lo hi : Int32} (h0 : 0 ≤ lo.toInt) (h1 : hi.toInt < 128) : (lo ≤ v &&& 255 ∧ v &&& 255 ≤ hi) ↔ (lo ≤ v ∧ v ≤ hi) := by
  obtain ⟨p, q⟩ := by_s h
  by_cases z : 0 ≤ v.toInt
  · rw [p z]
  · have := q (by omega)
    simp only [Int32.le_iff_toInt_le]
    omega
theorem by_eq {v : Int32} (h : isBy v) {c : Int32} (h0 : 0 ≤ c.toInt) (h1 : c.toInt < 128) : v &&& 255 = c ↔ v = c := by
  obtain ⟨p, q⟩ := by_s h
  by_cases z : 0 ≤ v.toInt
  · rw [p z]
  · have := q (by omega)
    constructor
    · intro e; rw [e] at this; omega
    · intro e; rw [e] at z; omega
theorem m_small {v : Int32} (h : isBy v) : fX6_isSmall (v &&& 255) = some (if cSm v = true then 1 else 0) := by
  unfold fX6_isSmall
  have e := by_in h (lo := 97) (hi := 122) (by decide) (by decide)
  by_cases z : cSm v = true
  · rw [if_pos z]
    obtain ⟨a, b⟩ := e.mpr (of_decide_eq_true z)
    rw [if_neg (Int32.not_lt.mpr a), if_neg (Int32.not_lt.mpr b)]
  · rw [if_neg z]
    by_cases z1 : v &&& 255 < 97
    · rw [if_pos z1]
    · rw [if_neg z1, if_pos (Int32.not_le.mp (fun q => z (decide_eq_true (e.mp ⟨Int32.not_lt.mp z1, q⟩))))]
theorem m_digit {v : Int32} (h : isBy v) : fX6_isDigit (v &&& 255) = some (if cDg v = true then 1 else 0) := by
  unfold fX6_isDigit
  have e := by_in h (lo := 48) (hi := 57) (by decide) (by decide)
  by_cases z : cDg v = true
  · rw [if_pos z]
    obtain ⟨a, b⟩ := e.mpr (of_decide_eq_true z)
    rw [if_neg (Int32.not_lt.mpr a), if_neg (Int32.not_lt.mpr b)]
  · rw [if_neg z]
    by_cases z1 : v &&& 255 < 48
    · rw [if_pos z1]
    · rw [if_neg z1, if_pos (Int32.not_le.mp (fun q => z (decide_eq_true (e.mp ⟨Int32.not_lt.mp z1, q⟩))))]
theorem by_sm {v : Int32} (h : isBy v) (z : cSm v = true) : v &&& 255 = v := (by_s h).1 (by have := (of_decide_eq_true z).1; rw [Int32.le_iff_toInt_le] at this; have e : (97 : Int32).toInt = 97 := by decide
                                                                                            omega)
theorem by_dg {v : Int32} (h : isBy v) (z : cDg v = true) : v &&& 255 = v := (by_s h).1 (by have := (of_decide_eq_true z).1; rw [Int32.le_iff_toInt_le] at this; have e : (48 : Int32).toInt = 48 := by decide
                                                                                            omega)
theorem by_sp {v : Int32} (h : isBy v) : v &&& 255 = 32 ↔ cSp v = true := by
  rw [by_eq h (by decide) (by decide)]
  constructor
  · intro e; rw [e]; decide
  · intro e
    have := of_decide_eq_true e
    exact Int32.le_antisymm this.2 this.1
/-- what a word, a number is worth -/
def wWd (T : Nat → Int32) (fr : Nat) : Nat → Int64
  | 0 => 0
  | k + 1 => if k < 10 then wWd T fr k * 32 + (T (fr + k)).toInt64 - 96 else -1
def wDg (T : Nat → Int32) (fr : Nat) : Nat → Int64
  | 0 => 0
  | k + 1 => if wDg T fr k ≤ 1000 then wDg T fr k * 10 + (T (fr + k)).toInt64 - 48 else wDg T fr k
def sO (T : Nat → Int32) (n fr : Nat) : Int32 := if fr < n then (if cSm (T fr) = true then 1 else if cDg (T fr) = true then 2 else 3) else 0
def wO (T : Nat → Int32) (n fr to : Nat) : Int64 := if fr < n then (if cSm (T fr) = true then wWd T fr (to - fr) else if cDg (T fr) = true then wDg T fr (to - fr) else (T fr &&& 255).toInt64) else 0
def mS (σ : St) (fr to : Nat) (so : Int32) (wo : Int64) : St := (fun c k => if c = 0 then (if k = 8 then I fr else if k = 9 then I to else if k = 10 then so else σ.1 0 k) else σ.1 c k, fun c k => if c = 0 ∧ k = 11 then wo else σ.2.1 c k, σ.2.2)
theorem mS_8 (σ : St) (fr to : Nat) (so : Int32) (wo : Int64) : gI (mS σ fr to so wo) 0 8 = I fr := rfl
theorem mS_9 (σ : St) (fr to : Nat) (so : Int32) (wo : Int64) : gI (mS σ fr to so wo) 0 9 = I to := rfl
theorem mS_10 (σ : St) (fr to : Nat) (so : Int32) (wo : Int64) : gI (mS σ fr to so wo) 0 10 = so := rfl
theorem mS_11 (σ : St) (fr to : Nat) (so : Int32) (wo : Int64) : gL (mS σ fr to so wo) 0 11 = wo := rfl
theorem mS_7 (σ : St) (fr to : Nat) (so : Int32) (wo : Int64) : gI (mS σ fr to so wo) 0 7 = gI σ 0 7 := rfl
theorem mS_A (σ : St) (fr to : Nat) (so : Int32) (wo : Int64) (c k : Nat) : gA (mS σ fr to so wo) c k = gA σ c k := rfl
theorem mS_I (σ : St) (fr to : Nat) (so : Int32) (wo : Int64) (c k : Nat) (h : c = 0 → k ≠ 8 ∧ k ≠ 9 ∧ k ≠ 10) : gI (mS σ fr to so wo) c k = gI σ c k := by
  show (if c = 0 then _ else _) = _
  by_cases z : c = 0
  · rw [if_pos z, if_neg (h z).1, if_neg (h z).2.1, if_neg (h z).2.2, z]; rfl
  · rw [if_neg z]; rfl
theorem u2I (σ σ' : St) (k : Nat) (x : Int32) (h1 : ∀ j, j ≠ k → σ'.1 0 j = σ.1 0 j) (h2 : σ'.1 0 k = x) (h3 : ∀ c j, c ≠ 0 → σ'.1 c j = σ.1 c j) (h4 : σ'.2 = σ.2) : pI σ 0 k x = σ' := by
  refine Prod.ext ?_ h4.symm
  funext c j
  show (if c = 0 ∧ j = k then x else σ.1 c j) = σ'.1 c j
  by_cases z : c = 0
  · by_cases y : j = k
    · rw [if_pos ⟨z, y⟩, z, y, h2]
    · rw [if_neg (fun q => y q.2), z, h1 j y]
  · rw [if_neg (fun q => z q.1), h3 c j z]
theorem mS_p8 (σ : St) (fr to : Nat) (so : Int32) (wo : Int64) (x : Nat) : pI (mS σ fr to so wo) 0 8 (I x) = mS σ x to so wo :=
  u2I _ _ 8 _ (fun j hj => by show (if j = 8 then I x else _) = if j = 8 then I fr else _; rw [if_neg hj, if_neg hj]) rfl (fun c j hc => by show (if c = 0 then _ else _) = if c = 0 then _ else _; rw [if_neg hc, if_neg hc]) rfl
theorem mS_p9 (σ : St) (fr to : Nat) (so : Int32) (wo : Int64) (x : Nat) : pI (mS σ fr to so wo) 0 9 (I x) = mS σ fr x so wo :=
  u2I _ _ 9 _ (fun j hj => by show (if j = 8 then I fr else if j = 9 then I x else _) = if j = 8 then I fr else if j = 9 then I to else _; rw [if_neg hj, if_neg hj]) rfl (fun c j hc => by show (if c = 0 then _ else _) = if c = 0 then _ else _; rw [if_neg hc, if_neg hc]) rfl
theorem mS_p10 (σ : St) (fr to : Nat) (so : Int32) (wo : Int64) (x : Int32) : pI (mS σ fr to so wo) 0 10 x = mS σ fr to x wo :=
  u2I _ _ 10 _ (fun j hj => by show (if j = 8 then I fr else if j = 9 then I to else if j = 10 then x else _) = if j = 8 then I fr else if j = 9 then I to else if j = 10 then so else _; rw [if_neg hj, if_neg hj]) rfl (fun c j hc => by show (if c = 0 then _ else _) = if c = 0 then _ else _; rw [if_neg hc, if_neg hc]) rfl
theorem mS_pL (σ : St) (fr to : Nat) (so : Int32) (wo : Int64) (x : Int64) : pL (mS σ fr to so wo) 0 11 x = mS σ fr to so x := by
  refine Prod.ext rfl (Prod.ext ?_ rfl)
  funext c j
  show (if c = 0 ∧ j = 11 then x else if c = 0 ∧ j = 11 then wo else σ.2.1 c j) = if c = 0 ∧ j = 11 then x else σ.2.1 c j
  by_cases z : c = 0 ∧ j = 11
  · rw [if_pos z, if_pos z]
  · rw [if_neg z, if_neg z, if_neg z]
theorem mS_mS (σ : St) (fr to fr' to' : Nat) (so so' : Int32) (wo wo' : Int64) : mS (mS σ fr to so wo) fr' to' so' wo' = mS σ fr' to' so' wo' := by
  refine Prod.ext ?_ (Prod.ext ?_ rfl)
  · funext c k
    show (if c = 0 then (if k = 8 then I fr' else if k = 9 then I to' else if k = 10 then so' else if k = 8 then I fr else if k = 9 then I to else if k = 10 then so else σ.1 0 k) else if c = 0 then _ else σ.1 c k) = if c = 0 then (if k = 8 then I fr' else if k = 9 then I to' else if k = 10 then so' else σ.1 0 k) else σ.1 c k
    by_cases z : c = 0
    · rw [if_pos z, if_pos z]
      by_cases a : k = 8
      · simp only [a, if_true]
      · by_cases b : k = 9
        · simp only [b, if_true, if_neg (show ¬ (9 : Nat) = 8 by decide)]
        · by_cases d : k = 10
          · simp only [d, if_true, if_neg (show ¬ (10 : Nat) = 8 by decide), if_neg (show ¬ (10 : Nat) = 9 by decide)]
          · simp only [if_neg a, if_neg b, if_neg d]
    · rw [if_neg z, if_neg z, if_neg z]
  · funext c j
    show (if c = 0 ∧ j = 11 then wo' else if c = 0 ∧ j = 11 then wo else σ.2.1 c j) = if c = 0 ∧ j = 11 then wo' else σ.2.1 c j
    by_cases z : c = 0 ∧ j = 11
    · rw [if_pos z, if_pos z]
    · rw [if_neg z, if_neg z, if_neg z]
theorem mS_self (σ : St) {fr to : Nat} (h1 : gI σ 0 8 = I fr) (h2 : gI σ 0 9 = I to) : mS σ fr to (gI σ 0 10) (gL σ 0 11) = σ := by
  refine Prod.ext ?_ (Prod.ext ?_ rfl)
  · funext c k
    show (if c = 0 then (if k = 8 then I fr else if k = 9 then I to else if k = 10 then gI σ 0 10 else σ.1 0 k) else σ.1 c k) = σ.1 c k
    by_cases z : c = 0
    · rw [if_pos z, z]
      by_cases a : k = 8
      · rw [if_pos a, a]; exact h1.symm
      · rw [if_neg a]
        by_cases b : k = 9
        · rw [if_pos b, b]; exact h2.symm
        · rw [if_neg b]
          by_cases d : k = 10
          · rw [if_pos d, d]; rfl
          · rw [if_neg d]
    · rw [if_neg z]
  · funext c j
    show (if c = 0 ∧ j = 11 then gL σ 0 11 else σ.2.1 c j) = σ.2.1 c j
    by_cases z : c = 0 ∧ j = 11
    · rw [if_pos z, z.1, z.2]; rfl
    · rw [if_neg z]
/-- the model over the tape T -/
def RdM (T : Nat → Int32) (n : Nat) (σ : St) : Prop := n ≤ 400 ∧ gI σ 0 7 = I n ∧ ∀ i, i < n → isBy (T i) ∧ gA σ 5 i = T i &&& 255
theorem RdM.mS {T : Nat → Int32} {n : Nat} {σ : St} (h : RdM T n σ) (fr to : Nat) (so : Int32) (wo : Int64) : RdM T n (mS σ fr to so wo) := h
section ML
variable {T : Nat → Int32} {n : Nat} {σ : St}
theorem m_scan (hn : n ≤ 400) (p : Int32 → Bool) (f : St → Option (St ⊕ St)) (S : Nat → St) {t : Nat} (ht : t ≤ n)
    (hf : ∀ k, t ≤ k → k ≤ n → f (S k) = if k < n ∧ p (T k) = true then some (.inr (S (k + 1))) else some (.inl (S k))) : iter f FU (S t) = some (S (endP p T n t)) := by
  obtain ⟨e1, e2, e3, e4⟩ := endP_s p T n t
  have e2 := e2 ht
  have := Rn.seq (f := f) (fun k => S (t + k)) (endP p T n t - t) (b := S (endP p T n t)) (fun k hk => by
    have q := e3 (t + k) (by omega) (by omega)
    show f (S (t + k)) = _
    rw [hf (t + k) (by omega) (by omega), if_pos q]; rfl) (by
    show f (S (t + (endP p T n t - t))) = _
    rw [show t + (endP p T n t - t) = endP p T n t by omega, hf _ e1 e2, if_neg e4]) (by rw [FU_v]; omega)
  exact this
theorem m_next243 (so : Int32) (h : RdM T n σ) {fr to : Nat} (wo : Int64) (hso : so ≠ 2) : fX6_next_243 (mS σ fr to so wo) = some (mS σ fr to so wo) := by
  unfold fX6_next_243
  have : Rn (fun v : St => bX6_next_243 v) 1 (mS σ fr to so wo) (mS σ fr to so wo) := Rn.stop (by
    show bX6_next_243 _ = _
    unfold bX6_next_243
    rw [mS_10, if_neg hso])
  rw [this.fu (by rw [FU_v]; omega)]
  rfl
theorem m_next149 (so : Int32) (h : RdM T n σ) {fr to : Nat} (wo : Int64) (hso : so ≠ 1) : fX6_next_149 (mS σ fr to so wo) = fX6_next_243 (mS σ fr to so wo) := by
  unfold fX6_next_149
  have : Rn (fun v : St => bX6_next_149 v) 1 (mS σ fr to so wo) (mS σ fr to so wo) := Rn.stop (by
    show bX6_next_149 _ = _
    unfold bX6_next_149
    rw [mS_10, if_neg hso])
  rw [this.fu (by rw [FU_v]; omega)]
  rfl
theorem m_nxt (h : RdM T n σ) {t : Nat} (ht : t ≤ n) (h9 : gI σ 0 9 = I t) : fX6_next σ = some (mS σ (nxF T n t) (nxT T n t) (sO T n (nxF T n t)) (wO T n (nxF T n t) (nxT T n t))) := by
  obtain ⟨hn, h7, hT⟩ := h
  obtain ⟨b1, b2, b3, b4⟩ := nx_s T n t ht
  unfold fX6_next
  rw [letB_t, h9]
  generalize es : gI σ 0 10 = so0
  generalize ew : gL σ 0 11 = wo0
  have e0 : pI σ 0 8 (I t) = mS σ t t so0 wo0 := by
    rw [← es, ← ew]
    refine u2I _ _ 8 _ (fun j hj => ?_) rfl (fun c j hc => ?_) ?_
    · show (if j = 8 then _ else if j = 9 then I t else if j = 10 then gI σ 0 10 else σ.1 0 j) = _
      rw [if_neg hj]
      by_cases b : j = 9
      · rw [if_pos b, b]; exact h9.symm
      · rw [if_neg b]
        by_cases d : j = 10
        · rw [if_pos d, d]; rfl
        · rw [if_neg d]
    · show (if c = 0 then _ else _) = _
      rw [if_neg hc]
    · refine Prod.ext ?_ rfl
      funext c j
      show (if c = 0 ∧ j = 11 then gL σ 0 11 else σ.2.1 c j) = σ.2.1 c j
      by_cases z : c = 0 ∧ j = 11
      · rw [if_pos z, z.1, z.2]; rfl
      · rw [if_neg z]
  rw [e0]
  unfold fX6_next_8
  have l1 := m_scan (T := T) hn cSp (fun v => bX6_next_8 v) (fun k => mS σ k t so0 wo0) ht (fun k _ hk => by
    show bX6_next_8 (mS σ k t so0 wo0) = _
    unfold bX6_next_8
    rw [mS_7, mS_8, h7, mS_A]
    by_cases z : k < n
    · rw [if_neg (fun q => by rw [I_le (by omega) (by omega)] at q; omega), ckB_t (I_in (by omega) (by decide)), I_cl (by omega), (hT k z).2]
      by_cases z2 : cSp (T k) = true
      · rw [if_pos ((by_sp (hT k z).1).mpr z2), if_pos ⟨z, z2⟩, letB_t, show I k + 1 = I (k + 1) from I_add k 1, mS_p8]
      · rw [if_neg (fun q => z2 ((by_sp (hT k z).1).mp q)), if_neg (fun q => z2 q.2)]
    · rw [if_pos ((I_le (by omega) (by omega)).mpr (by omega)), if_neg (fun q => z q.1)])
  rw [l1, bn1_s]
  show fX6_next_46 (mS σ (nxF T n t) t so0 wo0) = _
  have hF : nxF T n t ≤ n := by omega
  have eT : nxT T n t = if nxF T n t < n then (if cSm (T (nxF T n t)) = true then endP cSm T n (nxF T n t) else if cDg (T (nxF T n t)) = true then endP cDg T n (nxF T n t) else nxF T n t + 1) else nxF T n t := rfl
  rw [eT]
  clear eT b2 b3 b4
  generalize nxF T n t = fr at *
  unfold fX6_next_46
  rw [letB_t, mS_8, mS_p9, letB_t, mS_pL, mS_8, mS_7, h7]
  by_cases z : fr < n
  · have hb := hT fr z
    rw [if_neg (fun q => by rw [I_eq (by omega) (by omega)] at q; omega), ckB_t (I_in (by omega) (by decide)), mS_A, I_cl (by omega), hb.2, m_small hb.1, bn1_s, if_pos z]
    unfold sO wO
    rw [if_pos z, if_pos z]
    by_cases z1 : cSm (T fr) = true
    · rw [if_pos z1, if_pos z1, if_pos z1, if_pos z1, if_neg (by decide)]
      unfold fX6_next_114
      rw [letB_t, mS_p10, mS_10, if_neg (by decide)]
      unfold fX6_next_149
      have l2 := m_scan (T := T) hn cSm (fun v => bX6_next_149 v) (fun k => mS σ fr k 1 (wWd T fr (k - fr))) hF (fun k hk1 hk => by
        show bX6_next_149 (mS σ fr k 1 (wWd T fr (k - fr))) = _
        unfold bX6_next_149
        rw [mS_10, if_pos rfl, mS_7, mS_9, h7, mS_A, mS_8, mS_11]
        by_cases y : k < n
        · have hk2 := hT k y
          rw [if_neg (fun q => by rw [I_le (by omega) (by omega)] at q; omega), ckB_t (I_in (by omega) (by decide)), I_cl (by omega), hk2.2, m_small hk2.1, bn1_s]
          by_cases y2 : cSm (T k) = true
          · rw [if_pos y2, if_neg (by decide), if_pos (show k < n ∧ cSm (T k) = true from ⟨y, y2⟩), I_sub hk1 (by omega), by_sm hk2.1 y2]
            have e3 : wWd T fr (k + 1 - fr) = if k - fr < 10 then wWd T fr (k - fr) * 32 + (T k).toInt64 - 96 else -1 := by
              rw [show k + 1 - fr = (k - fr) + 1 by omega]
              show (if k - fr < 10 then wWd T fr (k - fr) * 32 + (T (fr + (k - fr))).toInt64 - 96 else -1) = _
              rw [show fr + (k - fr) = k by omega]
            rw [e3]
            by_cases y3 : k - fr < 10
            · rw [if_neg (show ¬ (10 : Int32) ≤ I (k - fr) from fun q => by rw [show (10 : Int32) = I 10 from rfl, I_le (by omega) (by omega)] at q; omega), if_pos y3, ckB_t (I_in (by omega) (by decide))]
              unfold fX6_next_227
              rw [letB_t, mS_pL, letB_t, mS_9, show I k + 1 = I (k + 1) from I_add k 1, mS_p9]
            · rw [if_pos (show (10 : Int32) ≤ I (k - fr) from (I_le (a := 10) (by omega) (by omega)).mpr (by omega)), if_neg y3]
              unfold fX6_next_227
              rw [letB_t, mS_pL, letB_t, mS_9, show I k + 1 = I (k + 1) from I_add k 1, mS_p9]
          · rw [if_neg y2, if_pos rfl, if_neg (fun q => y2 q.2)]
        · rw [if_pos ((I_le (by omega) (by omega)).mpr (by omega)), if_neg (fun q => y q.1)])
      have l2 : iter (fun v : St => bX6_next_149 v) FU (mS σ fr fr 1 0) = some (mS σ fr (endP cSm T n fr) 1 (wWd T fr (endP cSm T n fr - fr))) := by
        have e : wWd T fr (fr - fr) = 0 := by rw [Nat.sub_self]; rfl
        rw [← e]; exact l2
      rw [l2, bn1_s]
      exact m_next243 1 ⟨hn, h7, hT⟩ _ (by decide)
    · rw [if_neg z1, if_neg z1, if_neg z1, if_neg z1, if_pos rfl, ckB_t (I_in (by omega) (by decide)), m_digit hb.1, bn1_s]
      by_cases z2 : cDg (T fr) = true
      · rw [if_pos z2, if_pos z2, if_pos z2, if_pos z2, if_neg (by decide)]
        unfold fX6_next_114
        rw [letB_t, mS_p10, mS_10, if_neg (by decide), m_next149 2 ⟨hn, h7, hT⟩ _ (by decide)]
        unfold fX6_next_243
        have l2 := m_scan (T := T) hn cDg (fun v => bX6_next_243 v) (fun k => mS σ fr k 2 (wDg T fr (k - fr))) hF (fun k hk1 hk => by
          show bX6_next_243 (mS σ fr k 2 (wDg T fr (k - fr))) = _
          unfold bX6_next_243
          rw [mS_10, if_pos rfl, mS_7, mS_9, h7, mS_A, mS_11]
          by_cases y : k < n
          · have hk2 := hT k y
            rw [if_neg (fun q => by rw [I_le (by omega) (by omega)] at q; omega), ckB_t (I_in (by omega) (by decide)), I_cl (by omega), hk2.2, m_digit hk2.1, bn1_s]
            by_cases y2 : cDg (T k) = true
            · rw [if_pos y2, if_neg (by decide), if_pos (show k < n ∧ cDg (T k) = true from ⟨y, y2⟩), by_dg hk2.1 y2]
              have e3 : wDg T fr (k + 1 - fr) = if wDg T fr (k - fr) ≤ 1000 then wDg T fr (k - fr) * 10 + (T k).toInt64 - 48 else wDg T fr (k - fr) := by
                rw [show k + 1 - fr = (k - fr) + 1 by omega]
                show (if wDg T fr (k - fr) ≤ 1000 then wDg T fr (k - fr) * 10 + (T (fr + (k - fr))).toInt64 - 48 else wDg T fr (k - fr)) = _
                rw [show fr + (k - fr) = k by omega]
              rw [e3]
              by_cases y3 : wDg T fr (k - fr) ≤ 1000
              · rw [if_pos y3, if_pos y3, ckB_t (I_in (by omega) (by decide))]
                unfold fX6_next_319
                rw [letB_t, mS_pL, letB_t, mS_9, show I k + 1 = I (k + 1) from I_add k 1, mS_p9]
              · rw [if_neg y3, if_neg y3]
                unfold fX6_next_319
                rw [letB_t, mS_pL, letB_t, mS_9, show I k + 1 = I (k + 1) from I_add k 1, mS_p9]
            · rw [if_neg y2, if_pos rfl, if_neg (fun q => y2 q.2)]
          · rw [if_pos ((I_le (by omega) (by omega)).mpr (by omega)), if_neg (fun q => y q.1)])
        have l2 : iter (fun v : St => bX6_next_243 v) FU (mS σ fr fr 2 0) = some (mS σ fr (endP cDg T n fr) 2 (wDg T fr (endP cDg T n fr - fr))) := by
          have e : wDg T fr (fr - fr) = 0 := by rw [Nat.sub_self]; rfl
          rw [← e]; exact l2
        rw [l2, bn1_s]
        rfl
      · rw [if_neg z2, if_neg z2, if_neg z2, if_neg z2, if_pos rfl]
        unfold fX6_next_114
        rw [letB_t, mS_p10, mS_10, if_pos rfl, mS_8, ckB_t (I_in (by omega) (by decide)), letB_t, mS_A, I_cl (by omega), hb.2, mS_pL, letB_t, mS_9, show I fr + 1 = I (fr + 1) from I_add fr 1, mS_p9, m_next149 3 ⟨hn, h7, hT⟩ _ (by decide)]
        exact m_next243 3 ⟨hn, h7, hT⟩ _ (by decide)
  · have e : fr = n := by omega
    rw [if_pos (congrArg I e), if_neg z]
    unfold sO wO
    rw [if_neg z, if_neg z]
    unfold fX6_next_114
    rw [letB_t, mS_p10, mS_10, if_neg (by decide), m_next149 0 ⟨hn, h7, hT⟩ _ (by decide)]
    exact m_next243 0 ⟨hn, h7, hT⟩ _ (by decide)
end ML
