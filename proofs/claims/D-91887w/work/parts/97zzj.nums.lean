/-! the plain law: a fault made; numbers, both sides -/
set_option maxRecDepth 100000
def flt (σ : St) (q fr : Nat) : St := pI (pR (pR (pR (pR (aS σ q) q 0 none) q 1 none) q 2 none) q 3 none) q 6 (I fr)
theorem flt_6 (σ : St) (q fr : Nat) : gI (flt σ q fr) q 6 = I fr := if_pos ⟨rfl, rfl⟩
theorem flt_c (σ : St) {q fr c : Nat} (h : c ≠ q) : agc σ (flt σ q fr) c := (((((agc.aS h).tr (agc.pR h)).tr (agc.pR h)).tr (agc.pR h)).tr (agc.pR h)).tr (agc.pI h)
theorem x_fault {σ : St} {η : Eta} (h : AOK η) (fr : Nat) : fX8_init η.2.1 (I fr) (aS σ η.2.1) (aE η xD8 7) = some (flt σ η.2.1 fr, aE η xD8 7) := by
  have hA : AOK (aE η xD8 7) := h.aE (by decide)
  unfold fX8_init fX8_init_0
  rw [hA.x]
  unfold fJ4_init_2_cN_cN_k8 fJ4_init_2_cN_cN_k8_0 fJ3_thr
  rw [ckS_t (aE_n _ _ _), if_pos ⟨rfl, rfl⟩, bn2_s]
  show fX8_init_8 _ _ _ _ = _
  unfold fX8_init_8
  rw [hA.x, ckS_t (aE_n _ _ _)]
  rfl
/-- a digit's number -/
def dgv (v : Int32) : Nat := v.toInt.toNat - 48
theorem dg_dgv {v : Int32} (h : cDg v = true) : v.toInt = (dgv v + 48 : Nat) ∧ dgv v ≤ 9 := by
  obtain ⟨h1, h2⟩ := of_decide_eq_true h
  rw [Int32.le_iff_toInt_le] at h1 h2
  have e1 : (48 : Int32).toInt = 48 := by decide
  have e2 : (57 : Int32).toInt = 57 := by decide
  unfold dgv
  omega
/-- the number's worth -/
def nV (T : Nat → Int32) (fr : Nat) : Nat → Nat
  | 0 => 0
  | k + 1 => if nV T fr k ≤ 1000 then nV T fr k * 10 + dgv (T (fr + k)) else nV T fr k
theorem nV_s (T : Nat → Int32) (fr k : Nat) : nV T fr (k + 1) = if nV T fr k ≤ 1000 then nV T fr k * 10 + dgv (T (fr + k)) else nV T fr k := rfl
theorem nV_b {T : Nat → Int32} {fr : Nat} : ∀ k, (∀ j, j < k → cDg (T (fr + j)) = true) → nV T fr k ≤ 10009 := by
  intro k
  induction k with
  | zero => intro _; exact Nat.zero_le _
  | succ k ih =>
    intro h
    have := ih (fun j hj => h j (by omega))
    have hd := (dg_dgv (h k (Nat.lt_succ_self k))).2
    rw [nV_s]
    by_cases z : nV T fr k ≤ 1000
    · rw [if_pos z]; omega
    · rw [if_neg z]; exact this
theorem nV_up {T : Nat → Int32} {fr : Nat} : ∀ m k, nV T fr k ≤ nV T fr (k + m) := by
  intro m
  induction m with
  | zero => intro k; exact Nat.le_refl _
  | succ m ih =>
    intro k
    refine Nat.le_trans (ih k) ?_
    rw [← Nat.add_assoc, nV_s]
    by_cases z : nV T fr (k + m) ≤ 1000
    · rw [if_pos z]; omega
    · rw [if_neg z]; exact Nat.le_refl _
theorem wDg_v {T : Nat → Int32} {fr : Nat} : ∀ k, (∀ j, j < k → cDg (T (fr + j)) = true) → (wDg T fr k).toInt = nV T fr k := by
  intro k
  induction k with
  | zero => intro _; rfl
  | succ k ih =>
    intro h
    have e1 := ih (fun j hj => h j (by omega))
    have hb := nV_b k (fun j hj => h j (by omega))
    have hl := dg_dgv (h k (Nat.lt_succ_self k))
    have hc : wDg T fr k ≤ 1000 ↔ nV T fr k ≤ 1000 := by
      rw [Int64.le_iff_toInt_le, e1, (by decide : (1000 : Int64).toInt = 1000)]
      omega
    rw [nV_s]
    show (if wDg T fr k ≤ 1000 then wDg T fr k * 10 + (T (fr + k)).toInt64 - 48 else wDg T fr k).toInt = _
    by_cases z : nV T fr k ≤ 1000
    · rw [if_pos z, if_pos (hc.mpr z)]
      exact l64_step (m := 10) (c := 48) e1 hl.1 (by decide) (by decide) (Nat.lt_of_le_of_lt hb (by decide)) (Nat.lt_of_le_of_lt hl.2 (by decide))
    · rw [if_neg z, if_neg (fun q => z (hc.mp q))]
      exact e1
/-- a number of at most hi stands there -/
def isN (T : Nat → Int32) (n fr to hi : Nat) : Bool := decide (fr < n) && cDg (T fr) && decide (nV T fr (to - fr) ≤ hi)
theorem isN_t {T : Nat → Int32} {n fr to hi : Nat} : isN T n fr to hi = true ↔ (fr < n ∧ cDg (T fr) = true) ∧ nV T fr (to - fr) ≤ hi := by
  unfold isN
  rw [Bool.and_eq_true, Bool.and_eq_true, decide_eq_true_iff, decide_eq_true_iff]
section NU
variable {T : Nat → Int32} {n fr to : Nat} {σ : St} {η : Eta} {a : Nat}
theorem tk_dg (hto : to = tkE T n fr) (hf : fr < n) (hd : cDg (T fr) = true) : fr < to ∧ ∀ j, j < to - fr → cDg (T (fr + j)) = true := by
  have n1 : ¬ cSm (T fr) = true := by
    intro q
    have h1 := (of_decide_eq_true hd).2
    have h2 := (of_decide_eq_true q).1
    exact absurd (Int32.le_trans h2 h1) (by decide)
  have e : to = endP cDg T n fr := by rw [hto]; unfold tkE; rw [if_pos hf, if_neg n1, if_pos hd]
  obtain ⟨h1, h2, h3, h4⟩ := endP_s cDg T n fr
  rw [← e] at h1 h3 h4
  refine ⟨?_, fun j hj => (h3 (fr + j) (by omega) (by omega)).2⟩
  by_cases z : to = fr
  · exact absurd ⟨by rw [z]; exact hf, by rw [z]; exact hd⟩ h4
  · omega
theorem so_2 (q1 : sO T n fr = 2) : fr < n ∧ cDg (T fr) = true := by
  unfold sO at q1
  by_cases y : fr < n
  · rw [if_pos y] at q1
    by_cases z : cSm (T fr) = true
    · rw [if_pos z] at q1; exact absurd q1 (by decide)
    · rw [if_neg z] at q1
      by_cases y2 : cDg (T fr) = true
      · exact ⟨y, y2⟩
      · rw [if_neg y2] at q1; exact absurd q1 (by decide)
  · rw [if_neg y] at q1; exact absurd q1 (by decide)
theorem dg_so (hf : fr < n) (hd : cDg (T fr) = true) : sO T n fr = 2 ∧ wO T n fr to = wDg T fr (to - fr) := by
  have n1 : ¬ cSm (T fr) = true := by
    intro q
    have h1 := (of_decide_eq_true hd).2
    have h2 := (of_decide_eq_true q).1
    exact absurd (Int32.le_trans h2 h1) (by decide)
  constructor
  · unfold sO; rw [if_pos hf, if_neg n1, if_pos hd]
  · unfold wO; rw [if_pos hf, if_neg n1, if_pos hd]
theorem AtM.num (h : AtM T n fr to σ) {H : Int64} {hi : Nat} (hH : H.toInt = hi) : fX6_number H σ = if isN T n fr to hi = true then bn1 (fX6_must 1 σ) (fun σ' => some (I (nV T fr (to - fr)), σ')) else bn1 (fX6_must 0 σ) (fun σ' => some ((gL σ 0 11).toInt32, σ')) := by
  obtain ⟨h1, h2, h3, h4, h5, h6, h7, h8⟩ := h
  unfold fX6_number
  rw [letB_t, h7]
  by_cases z : fr < n ∧ cDg (T fr) = true
  · obtain ⟨e1, e2⟩ := dg_so (to := to) z.1 z.2
    have hd := tk_dg h3 z.1 z.2
    have hv := wDg_v (to - fr) hd.2
    have hb := nV_b (to - fr) hd.2
    have ho : (gL σ 0 11).toInt = nV T fr (to - fr) := by rw [h8, e2, hv]
    rw [e1, if_pos rfl]
    by_cases y : nV T fr (to - fr) ≤ hi
    · rw [if_pos (isN_t.mpr ⟨z, y⟩), if_neg (fun q => by rw [Int64.lt_iff_toInt_lt, hH, ho] at q; omega)]
      have e3 : (gL σ 0 11).toInt32 = I (nV T fr (to - fr)) := by
        refine Int32.toInt_inj.mp ?_
        rw [Int64.toInt_toInt32, ho, I_toInt (by omega)]
        exact Int.bmod_eq_of_le (by omega) (by omega)
      rw [e3]
    · rw [if_neg (fun q => y (isN_t.mp q).2), if_pos (by rw [Int64.lt_iff_toInt_lt, hH, ho]; omega)]
  · rw [if_neg (fun q => z (isN_t.mp q).1), if_neg (fun q => z (so_2 q))]
theorem x_nloop (h : AtX T n fr to σ η a) (hf : fr < n) (hd : cDg (T fr) = true) {hi : Nat} (hh : hi ≤ 99) : ∀ m k, k + m = to - fr → nV T fr k ≤ 1000 → ∃ K v, Rn (fun v : Int32 × Int32 × St × Eta => bX7_number_35 a 0 (I hi) v.1 v.2.1 v.2.2.1 v.2.2.2) K (I (nV T fr k), I (fr + k), σ, η) (I v, σ, η) ∧ K ≤ m + 1 ∧ v ≤ 10009 ∧ ((v ≤ hi ∧ v = nV T fr (to - fr) ∧ nV T fr (to - fr) ≤ hi) ∨ (hi < v ∧ hi < nV T fr (to - fr))) := by
  obtain ⟨⟨g0, g1, g2, g3, g4, g5, g6⟩, h2, h3, h4, h5, h6⟩ := h
  have hdg := tk_dg h3 hf hd
  intro m
  induction m with
  | zero =>
    intro k hk hb
    have hk : k = to - fr := by omega
    refine ⟨1, nV T fr k, Rn.stop ?_, Nat.le_refl _, by omega, ?_⟩
    · show bX7_number_35 a 0 (I hi) (I (nV T fr k)) (I (fr + k)) σ η = _
      unfold bX7_number_35
      rw [ckS_t g2, h6, if_pos ((I_le (by omega) (by omega)).mpr (by omega))]
    · rw [hk]
      by_cases z : nV T fr (to - fr) ≤ hi
      · exact Or.inl ⟨z, rfl, z⟩
      · exact Or.inr ⟨by omega, by omega⟩
  | succ m ih =>
    intro k hk hb
    by_cases z : hi < nV T fr k
    · refine ⟨1, nV T fr k, Rn.stop ?_, by omega, by omega, Or.inr ⟨z, ?_⟩⟩
      · show bX7_number_35 a 0 (I hi) (I (nV T fr k)) (I (fr + k)) σ η = _
        unfold bX7_number_35
        rw [ckS_t g2, h6, if_neg (fun q => by rw [I_le (by omega) (by omega)] at q; omega), if_pos ((I_lt (by omega) (by omega)).mpr z)]
      · have := nV_up (T := T) (fr := fr) (to - fr - k) k
        rw [show k + (to - fr - k) = to - fr by omega] at this
        omega
    · have hk1 := hdg.2 k (by omega)
      have hd1 := dg_dgv hk1
      have e1 : nV T fr (k + 1) = nV T fr k * 10 + dgv (T (fr + k)) := by rw [nV_s, if_pos (by omega)]
      obtain ⟨K, v, r1, r2, r3, r4⟩ := ih (k + 1) (by omega) (by rw [e1]; omega)
      refine ⟨K + 1, v, Rn.step ?_ r1, by omega, r3, r4⟩
      show bX7_number_35 a 0 (I hi) (I (nV T fr k)) (I (fr + k)) σ η = _
      unfold bX7_number_35
      rw [ckS_t g2, h6, if_neg (fun q => by rw [I_le (by omega) (by omega)] at q; omega), if_neg (fun q => by rw [I_lt (by omega) (by omega)] at q; omega), ckS_t g2, g4, ckN_s, ckI_t g3, ckB_t (I_in (by omega) (by decide)), letB_t, letB_t, I_cl (by omega), g6 _ (by omega), show I (fr + k) + 1 = I (fr + (k + 1)) from I_add (fr + k) 1, e1]
      have e2 : T (fr + k) = I (dgv (T (fr + k)) + 48) := by
        refine Int32.toInt_inj.mp ?_
        rw [hd1.1, I_toInt (by omega)]
      have e3 : 10 * I (nV T fr k) + T (fr + k) - 48 = I (nV T fr k * 10 + dgv (T (fr + k))) := by
        rw [e2]
        show I 10 * I (nV T fr k) + I _ - I 48 = _
        rw [I_mul, I_add, I_sub (by omega) (by omega), ← e2]
        congr 1
        omega
      rw [e3]
theorem AtX.num (h : AtX T n fr to σ η a) (hA : AOK η) {hi : Nat} (hh : hi ≤ 99) : fX7_number a 0 (I hi) σ η = if isN T n fr to hi = true then some (.inl (I (nV T fr (to - fr)), rS σ a (nxF T n to) (nxT T n to), η)) else some (.inr (η.2.1, flt σ η.2.1 fr, aE η xD8 7)) := by
  have hnx := h.nx.1
  have hloop := @x_nloop T n fr to σ η a h
  have hor := h
  obtain ⟨hR, h2, h3, h4, h5, h6⟩ := h
  have hna : a ≠ η.2.1 := hA.ne (by rw [hR.2.2.1]; decide)
  have hfl : ∀ f : Nat → Eta → Prop, True := fun _ => trivial
  have hs8 : (aE η xD8 7).1 a = xD7 := (aE_o hna).trans hR.2.2.1
  have ha3 : gI (aS σ η.2.1) a 3 = I fr := by rw [gI_aS, if_neg hna]; exact h5
  unfold fX7_number fX7_number_0
  rw [ckS_t hR.2.2.1, ckS_t hR.2.2.1, h5, x_isIn hR (by omega)]
  unfold fX7_number_12
  by_cases z : fr < n ∧ cDg (T fr) = true
  · rw [if_pos (show fr < n ∧ (48 : Int32) ≤ T fr ∧ T fr ≤ 57 from ⟨z.1, of_decide_eq_true z.2⟩), bn3_s, if_neg (by decide), ckS_t hR.2.2.1, letB_t, h5]
    obtain ⟨K, v, r1, r2, r3, r4⟩ := hloop z.1 z.2 hh (to - fr) 0 (by omega) (Nat.zero_le _)
    have r1' := r1.fu (by rw [FU_v]; have := hR.1; omega)
    unfold fX7_number_35
    have r1'' : iter (fun v : Int32 × Int32 × St × Eta => bX7_number_35 a 0 (I hi) v.1 v.2.1 v.2.2.1 v.2.2.2) FU (0, I fr, σ, η) = some (I v, σ, η) := r1'
    rw [r1'', bn1_s]
    show ckF (fX7_number_71 a 0 (I hi) (I v) σ η) = _
    unfold fX7_number_71
    rw [if_neg (fun q => by rw [show (0 : Int32) = I 0 from rfl, I_lt (by omega) (by omega)] at q; omega)]
    rcases r4 with ⟨y1, y2, y3⟩ | ⟨y1, y2⟩
    · rw [if_pos ((I_le (by omega) (by omega)).mpr y1), ckS_t hR.2.2.1, hnx, bn2_s, if_pos (isN_t.mpr ⟨z, y3⟩), ← y2]
      rfl
    · rw [if_neg (fun q => by rw [I_le (by omega) (by omega)] at q; omega), if_neg (fun q => by have := (isN_t.mp q).2; omega)]
      unfold fX7_number_81 fX7_number_84
      rw [ckS_t hs8, ha3, x_fault hA, bn2_s]
      exact ckF_t (aE_n _ _ _)
  · rw [if_neg (fun q => z ⟨q.1, decide_eq_true q.2⟩), bn3_s, if_pos rfl, if_neg (fun q => z (isN_t.mp q).1)]
    unfold fX7_number_18
    rw [ckS_t hs8, ha3, x_fault hA, bn2_s]
    exact ckF_t (aE_n _ _ _)
end NU
