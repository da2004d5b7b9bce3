/-! the plain law: the recipe's signs, x's side -/
set_option maxRecDepth 100000
/-! the tape's signs, as such -/
def cSp (v : Int32) : Bool := decide (32 ≤ v ∧ v ≤ 32)
def cSm (v : Int32) : Bool := decide (97 ≤ v ∧ v ≤ 122)
def cDg (v : Int32) : Bool := decide (48 ≤ v ∧ v ≤ 57)
def skp (p : Int32 → Bool) (T : Nat → Int32) (n : Nat) : Nat → Nat → Nat
  | 0, k => k
  | f + 1, k => if k < n ∧ p (T k) = true then skp p T n f (k + 1) else k
/-- behind what p is true of, from k on -/
def endP (p : Int32 → Bool) (T : Nat → Int32) (n k : Nat) : Nat := skp p T n (n - k) k
theorem skp_s (p : Int32 → Bool) (T : Nat → Int32) (n : Nat) : ∀ f k, n - k ≤ f → k ≤ skp p T n f k ∧ (k ≤ n → skp p T n f k ≤ n) ∧ (∀ i, k ≤ i → i < skp p T n f k → i < n ∧ p (T i) = true) ∧ ¬ (skp p T n f k < n ∧ p (T (skp p T n f k)) = true) := by
  intro f
  induction f with
  | zero => intro k h; exact ⟨Nat.le_refl _, fun h => h, fun i h1 h2 => absurd h2 (Nat.not_lt.mpr h1), fun q => by have := q.1; show False; unfold skp at this; omega⟩
  | succ f ih =>
    intro k h
    unfold skp
    by_cases z : k < n ∧ p (T k) = true
    · rw [if_pos z]
      obtain ⟨h1, h2, h3, h4⟩ := ih (k + 1) (by omega)
      refine ⟨by omega, fun _ => h2 (by omega), fun i q1 q2 => ?_, h4⟩
      by_cases e : i = k
      · rw [e]; exact z
      · exact h3 i (by omega) q2
    · rw [if_neg z]
      exact ⟨Nat.le_refl _, fun h => h, fun i h1 h2 => absurd h2 (Nat.not_lt.mpr h1), z⟩
theorem endP_s (p : Int32 → Bool) (T : Nat → Int32) (n k : Nat) : k ≤ endP p T n k ∧ (k ≤ n → endP p T n k ≤ n) ∧ (∀ i, k ≤ i → i < endP p T n k → i < n ∧ p (T i) = true) ∧ ¬ (endP p T n k < n ∧ p (T (endP p T n k)) = true) := skp_s p T n (n - k) k (Nat.le_refl _)
/-- the next word, number or sign behind t -/
def nxF (T : Nat → Int32) (n t : Nat) : Nat := endP cSp T n t
def nxT (T : Nat → Int32) (n t : Nat) : Nat := if nxF T n t < n then (if cSm (T (nxF T n t)) = true then endP cSm T n (nxF T n t) else if cDg (T (nxF T n t)) = true then endP cDg T n (nxF T n t) else nxF T n t + 1) else nxF T n t
theorem nx_s (T : Nat → Int32) (n t : Nat) (h : t ≤ n) : t ≤ nxF T n t ∧ nxF T n t ≤ nxT T n t ∧ nxT T n t ≤ n ∧ (nxF T n t < n → nxF T n t < nxT T n t) := by
  obtain ⟨h1, h2, h3, h4⟩ := endP_s cSp T n t
  have hF := h2 h
  have hsm := endP_s cSm T n (nxF T n t)
  have hdg := endP_s cDg T n (nxF T n t)
  have gr : ∀ (p : Int32 → Bool), nxF T n t < n → p (T (nxF T n t)) = true → nxF T n t < endP p T n (nxF T n t) := by
    intro p q1 q2
    have := endP_s p T n (nxF T n t)
    by_cases e : endP p T n (nxF T n t) = nxF T n t
    · exact absurd ⟨by rw [e]; exact q1, by rw [e]; exact q2⟩ this.2.2.2
    · omega
  refine ⟨h1, ?_⟩
  unfold nxT
  by_cases z : nxF T n t < n
  · rw [if_pos z]
    by_cases z1 : cSm (T (nxF T n t)) = true
    · rw [if_pos z1]; exact ⟨hsm.1, hsm.2.1 (Nat.le_of_lt z), fun _ => gr _ z z1⟩
    · rw [if_neg z1]
      by_cases z2 : cDg (T (nxF T n t)) = true
      · rw [if_pos z2]; exact ⟨hdg.1, hdg.2.1 (Nat.le_of_lt z), fun _ => gr _ z z2⟩
      · rw [if_neg z2]; exact ⟨Nat.le_succ _, z, fun _ => Nat.lt_succ_self _⟩
  · rw [if_neg z]; exact ⟨Nat.le_refl _, hF, fun q => absurd q z⟩
/-! the Reader -/
def rS (σ : St) (a fr to : Nat) : St := (fun c k => if c = a then (if k = 3 then I fr else if k = 4 then I to else σ.1 a k) else σ.1 c k, σ.2)
/-- a Reader over the tape T of n signs -/
def RdX (T : Nat → Int32) (n : Nat) (σ : St) (η : Eta) (a : Nat) : Prop := n ≤ 400 ∧ XOK (ksOf η) η.1 ∧ η.1 a = xD7 ∧ η.1 11 = (1, 1, 400, []) ∧ gR σ a 0 = some 11 ∧ gI σ a 1 = I n ∧ ∀ i, i < n → gA σ 11 i = T i
theorem gI_rS3 (σ : St) (a fr to : Nat) : gI (rS σ a fr to) a 3 = I fr := by show (if a = a then _ else _) = _; rw [if_pos rfl]; rfl
theorem gI_rS4 (σ : St) (a fr to : Nat) : gI (rS σ a fr to) a 4 = I to := by show (if a = a then _ else _) = _; rw [if_pos rfl]; rfl
theorem gI_rS (σ : St) (a fr to c k : Nat) (h : c = a → k ≠ 3 ∧ k ≠ 4) : gI (rS σ a fr to) c k = gI σ c k := by
  show (if c = a then _ else _) = _
  by_cases z : c = a
  · rw [if_pos z, if_neg (h z).1, if_neg (h z).2, z]; rfl
  · rw [if_neg z]; rfl
theorem rS_self {σ : St} {a fr to : Nat} (h1 : gI σ a 3 = I fr) (h2 : gI σ a 4 = I to) : rS σ a fr to = σ := by
  refine Prod.ext ?_ rfl
  funext c k
  show (if c = a then (if k = 3 then I fr else if k = 4 then I to else σ.1 a k) else σ.1 c k) = σ.1 c k
  by_cases z : c = a
  · rw [if_pos z, z]
    by_cases z3 : k = 3
    · rw [if_pos z3, z3]; exact h1.symm
    · rw [if_neg z3]
      by_cases z4 : k = 4
      · rw [if_pos z4, z4]; exact h2.symm
      · rw [if_neg z4]
  · rw [if_neg z]
theorem rS_p3 (σ : St) (a fr to x : Nat) : pI (rS σ a fr to) a 3 (I x) = rS σ a x to := by
  refine Prod.ext ?_ rfl
  funext c k
  show (if c = a ∧ k = 3 then I x else if c = a then (if k = 3 then I fr else if k = 4 then I to else σ.1 a k) else σ.1 c k) = if c = a then (if k = 3 then I x else if k = 4 then I to else σ.1 a k) else σ.1 c k
  by_cases z : c = a
  · by_cases z3 : k = 3
    · rw [if_pos ⟨z, z3⟩, if_pos z, if_pos z3]
    · rw [if_neg (fun q => z3 q.2), if_pos z, if_pos z, if_neg z3, if_neg z3]
  · rw [if_neg (fun q => z q.1), if_neg z, if_neg z]
theorem rS_p4 (σ : St) (a fr to x : Nat) : pI (rS σ a fr to) a 4 (I x) = rS σ a fr x := by
  refine Prod.ext ?_ rfl
  funext c k
  show (if c = a ∧ k = 4 then I x else if c = a then (if k = 3 then I fr else if k = 4 then I to else σ.1 a k) else σ.1 c k) = if c = a then (if k = 3 then I fr else if k = 4 then I x else σ.1 a k) else σ.1 c k
  by_cases z : c = a
  · by_cases z4 : k = 4
    · rw [if_pos ⟨z, z4⟩, if_pos z, if_neg (by omega), if_pos z4]
    · rw [if_neg (fun q => z4 q.2), if_pos z, if_pos z, if_neg z4, if_neg z4]
  · rw [if_neg (fun q => z q.1), if_neg z, if_neg z]
theorem RdX.rS {T : Nat → Int32} {n : Nat} {σ : St} {η : Eta} {a : Nat} (h : RdX T n σ η a) (fr to : Nat) : RdX T n (rS σ a fr to) η a := by
  obtain ⟨h0, h1, h2, h3, h4, h5, h6⟩ := h
  exact ⟨h0, h1, h2, h3, h4, (gI_rS σ a fr to a 1 (fun _ => ⟨by decide, by decide⟩)).trans h5, h6⟩
theorem rS_0 {σ : St} {a t : Nat} (h : gI σ a 4 = I t) (x : Nat) : pI σ a 3 (I x) = rS σ a x t := by
  refine Prod.ext ?_ rfl
  funext c k
  show (if c = a ∧ k = 3 then I x else σ.1 c k) = if c = a then (if k = 3 then I x else if k = 4 then I t else σ.1 a k) else σ.1 c k
  by_cases z : c = a
  · by_cases z3 : k = 3
    · rw [if_pos ⟨z, z3⟩, if_pos z, if_pos z3]
    · rw [if_neg (fun q => z3 q.2), if_pos z, if_neg z3, z]
      by_cases z4 : k = 4
      · rw [if_pos z4, z4]; exact h
      · rw [if_neg z4]
  · rw [if_neg (fun q => z q.1), if_neg z]
section XL
variable {T : Nat → Int32} {n : Nat} {σ : St} {η : Eta} {a : Nat}
theorem x_isIn (h : RdX T n σ η a) {k : Nat} (hk : k ≤ n) (lo hi : Int32) : fX7_isIn a (I k) lo hi σ η = some (if k < n ∧ lo ≤ T k ∧ T k ≤ hi then 1 else 0, σ, η) := by
  obtain ⟨h0, h1, h2, h3, h4, h5, h6⟩ := h
  unfold fX7_isIn fX7_isIn_0
  rw [ckX_t h1, ckS_t h2, h5]
  by_cases z : k < n
  · rw [if_neg (fun q => by rw [I_le (by omega) (by omega)] at q; omega), ckS_t h2, h4, ckN_s, ckI_t h3, ckB_t (I_in (by omega) (by decide)), I_cl (by omega), h6 k z]
    by_cases z1 : T k < lo
    · rw [if_pos z1, if_neg (fun q => Int32.not_le.mpr z1 q.2.1)]
    · rw [if_neg z1, ckS_t h2, ckN_s, ckI_t h3, ckB_t (I_in (by omega) (by decide)), h6 k z]
      by_cases z2 : hi < T k
      · rw [if_pos z2, if_neg (fun q => Int32.not_le.mpr z2 q.2.2)]
      · rw [if_neg z2, if_pos ⟨z, Int32.not_lt.mp z1, Int32.not_lt.mp z2⟩]
  · rw [if_pos ((I_le (by omega) (by omega)).mpr (by omega)), if_neg (fun q => z q.1)]
/-- one of next()'s three loops -/
theorem x_scan (h : RdX T n σ η a) (p : Int32 → Bool) (f : St × Eta → Option ((St × Eta) ⊕ (St × Eta))) (S : Nat → St)
    (hf : ∀ k, k ≤ n → f (S k, η) = if k < n ∧ p (T k) = true then some (.inr (S (k + 1), η)) else some (.inl (S k, η))) {t : Nat} (ht : t ≤ n) : iter f FU (S t, η) = some (S (endP p T n t), η) := by
  obtain ⟨e1, e2, e3, e4⟩ := endP_s p T n t
  have hn := h.1
  have e2 := e2 ht
  have := Rn.seq (f := f) (fun k => (S (t + k), η)) (endP p T n t - t) (b := (S (endP p T n t), η)) (fun k hk => by
    have q := e3 (t + k) (by omega) (by omega)
    show f (S (t + k), η) = _
    rw [hf (t + k) (by omega), if_pos q]; rfl) (by
    show f (S (t + (endP p T n t - t)), η) = _
    rw [show t + (endP p T n t - t) = endP p T n t by omega, hf _ e2, if_neg e4]) (by rw [FU_v]; omega)
  exact this
theorem x_next (h : RdX T n σ η a) {t : Nat} (ht : t ≤ n) (h4 : gI σ a 4 = I t) : fX7_next a σ η = some (rS σ a (nxF T n t) (nxT T n t), η) := by
  have hX := h.2.1
  have hs := h.2.2.1
  have hn := h.1
  obtain ⟨b1, b2, b3, b4⟩ := nx_s T n t ht
  unfold fX7_next fX7_next_0
  rw [ckX_t hX, ckS_t hs, ckS_t hs, letB_t, h4, rS_0 h4 t]
  unfold fX7_next_8
  have hf : ∀ k, k ≤ n → bX7_next_8 a (rS σ a k t) η = if k < n ∧ cSp (T k) = true then some (.inr (rS σ a (k + 1) t, η)) else some (.inl (rS σ a k t, η)) := by
    intro k hk
    unfold bX7_next_8
    rw [ckX_t hX, ckS_t hs, ckS_t hs, gI_rS3, x_isIn (h.rS k t) hk]
    unfold fX7_next_20
    by_cases z : k < n ∧ cSp (T k) = true
    · have z' : k < n ∧ (32 : Int32) ≤ T k ∧ T k ≤ 32 := ⟨z.1, of_decide_eq_true z.2⟩
      rw [if_pos z', if_pos z, bn3_s, ckX_t hX, if_neg (by decide), ckS_t hs, ckS_t hs, letB_t, gI_rS3, show I k + 1 = I (k + 1) from I_add k 1, rS_p3]
    · rw [if_neg (fun q => z ⟨q.1, decide_eq_true q.2⟩), if_neg z, bn3_s, ckX_t hX, if_pos rfl]
  rw [x_scan h cSp (fun v => bX7_next_8 a v.1 v.2) (fun k => rS σ a k t) hf ht, bn1_s]
  show fX7_next_36 a (rS σ a (nxF T n t) t) η = _
  unfold fX7_next_36
  rw [ckX_t hX, ckS_t hs, ckS_t hs, letB_t, gI_rS3, rS_p4, ckS_t hs, ckS_t hs, gI_rS3]
  have hF : nxF T n t ≤ n := by omega
  generalize eF : nxF T n t = fr at *
  rw [x_isIn (h.rS fr fr) hF]
  unfold fX7_next_56
  have loop : ∀ (p : Int32 → Bool) (B : Nat → St → Eta → Option ((St × Eta) ⊕ (St × Eta))), (∀ k, k ≤ n → B a (rS σ a fr k) η = if k < n ∧ p (T k) = true then some (.inr (rS σ a fr (k + 1), η)) else some (.inl (rS σ a fr k, η))) → iter (fun v : St × Eta => B a v.1 v.2) FU (rS σ a fr fr, η) = some (rS σ a fr (endP p T n fr), η) := by
    intro p B hB
    exact x_scan h p (fun v => B a v.1 v.2) (fun k => rS σ a fr k) hB hF
  by_cases z : fr < n
  · by_cases z1 : cSm (T fr) = true
    · have e : nxT T n t = endP cSm T n fr := by unfold nxT; rw [eF, if_pos z, if_pos z1]
      rw [if_pos ⟨z, of_decide_eq_true z1⟩, bn3_s, ckX_t hX, if_neg (by decide), e]
      unfold fX7_next_59
      rw [loop cSm bX7_next_59 (fun k hk => by
        unfold bX7_next_59
        rw [ckX_t hX, ckS_t hs, ckS_t hs, gI_rS4, x_isIn (h.rS fr k) hk]
        unfold fX7_next_71
        by_cases y : k < n ∧ cSm (T k) = true
        · rw [if_pos (show k < n ∧ (97 : Int32) ≤ T k ∧ T k ≤ 122 from ⟨y.1, of_decide_eq_true y.2⟩), if_pos y, bn3_s, ckX_t hX, if_neg (by decide), ckS_t hs, ckS_t hs, letB_t, gI_rS4, show I k + 1 = I (k + 1) from I_add k 1, rS_p4]
        · rw [if_neg (fun q => y ⟨q.1, decide_eq_true q.2⟩), if_neg y, bn3_s, ckX_t hX, if_pos rfl]), bn1_s]
      rfl
    · rw [if_neg (fun q => z1 (decide_eq_true q.2)), bn3_s, ckX_t hX, if_pos rfl, ckS_t hs, ckS_t hs, gI_rS3, x_isIn (h.rS fr fr) hF]
      unfold fX7_next_99
      by_cases z2 : cDg (T fr) = true
      · have e : nxT T n t = endP cDg T n fr := by unfold nxT; rw [eF, if_pos z, if_neg z1, if_pos z2]
        rw [if_pos ⟨z, of_decide_eq_true z2⟩, bn3_s, ckX_t hX, if_neg (by decide), e]
        unfold fX7_next_102
        rw [loop cDg bX7_next_102 (fun k hk => by
          unfold bX7_next_102
          rw [ckX_t hX, ckS_t hs, ckS_t hs, gI_rS4, x_isIn (h.rS fr k) hk]
          unfold fX7_next_114
          by_cases y : k < n ∧ cDg (T k) = true
          · rw [if_pos (show k < n ∧ (48 : Int32) ≤ T k ∧ T k ≤ 57 from ⟨y.1, of_decide_eq_true y.2⟩), if_pos y, bn3_s, ckX_t hX, if_neg (by decide), ckS_t hs, ckS_t hs, letB_t, gI_rS4, show I k + 1 = I (k + 1) from I_add k 1, rS_p4]
          · rw [if_neg (fun q => y ⟨q.1, decide_eq_true q.2⟩), if_neg y, bn3_s, ckX_t hX, if_pos rfl]), bn1_s]
        rfl
      · have e : nxT T n t = fr + 1 := by unfold nxT; rw [eF, if_pos z, if_neg z1, if_neg z2]
        rw [if_neg (fun q => z2 (decide_eq_true q.2)), bn3_s, ckX_t hX, if_pos rfl, ckS_t hs, ckS_t hs, gI_rS3, gI_rS _ _ _ _ a 1 (fun _ => ⟨by decide, by decide⟩), h.2.2.2.2.2.1, if_neg (fun q => by rw [I_le (by omega) (by omega)] at q; omega), ckS_t hs, ckS_t hs, letB_t, gI_rS4, show I fr + 1 = I (fr + 1) from I_add fr 1, rS_p4, e]
  · have e : nxT T n t = fr := by unfold nxT; rw [eF, if_neg z]
    rw [if_neg (fun q => z q.1), bn3_s, ckX_t hX, if_pos rfl, ckS_t hs, ckS_t hs, gI_rS3, x_isIn (h.rS fr fr) hF]
    unfold fX7_next_99
    rw [if_neg (fun q => z q.1), bn3_s, ckX_t hX, if_pos rfl, ckS_t hs, ckS_t hs, gI_rS3, gI_rS _ _ _ _ a 1 (fun _ => ⟨by decide, by decide⟩), h.2.2.2.2.2.1, if_pos ((I_le (by omega) (by omega)).mpr (by omega)), e]
end XL
