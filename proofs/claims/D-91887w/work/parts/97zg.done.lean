/-! the plain law: pieces, one row of them -/
set_option maxRecDepth 100000
def nup (g : Nat → Nat) (k x : Nat) : Nat → Nat := fun i => if i = k then x else g i
/-- the first fire of those that are free first, of k + 1 -/
def gf (fr : Nat → Nat) : Nat → Nat
  | 0 => 0
  | k + 1 => if fr (k + 1) < fr (gf fr k) then k + 1 else gf fr k
theorem gf_le (fr : Nat → Nat) : ∀ k, gf fr k ≤ k
  | 0 => Nat.le_refl _
  | k + 1 => by
    have := gf_le fr k
    unfold gf
    by_cases q : fr (k + 1) < fr (gf fr k)
    · rw [if_pos q]; exact Nat.le_refl _
    · rw [if_neg q]; omega
/-- begins, free, last, done -/
abbrev GS : Type := (Nat → Nat) × (Nat → Nat) × Nat × Nat
section GG
variable (mi nd : Nat → Nat) (f : Nat)
abbrev gok (S : GS) (p : Nat) : Prop := nd p = 0 ∨ S.2.2.2.testBit (nd p - 1) = true
def gbeg (S : GS) (p : Nat) : Nat := if nd p = 0 then S.2.1 (gf S.2.1 (f - 1)) else Nat.max (S.2.1 (gf S.2.1 (f - 1))) (S.1 (nd p - 1) + mi (nd p - 1))
def gstep (S : GS) (p : Nat) : GS := (nup S.1 p (gbeg mi nd f S p), nup S.2.1 (gf S.2.1 (f - 1)) (gbeg mi nd f S p + mi p), Nat.max S.2.2.1 (gbeg mi nd f S p + mi p), S.2.2.2 ||| 2 ^ p)
def grun : GS → List Nat → Option GS
  | S, [] => some S
  | S, p :: t => if gok nd S p then grun (gstep mi nd f S p) t else none
def gupd (acc : Nat × (Nat → Nat)) : Option GS → Nat × (Nat → Nat)
  | none => acc
  | some S => if S.2.2.1 < acc.1 then (S.2.2.1, S.1) else acc
def gfold (S : GS) (acc : Nat × (Nat → Nat)) (Ls : List (List Nat)) : Nat × (Nat → Nat) := Ls.foldl (fun acc L => gupd acc (grun mi nd f S L)) acc
/-- times are small -/
def gBd (S : GS) (T : Nat) : Prop := (∀ i, S.2.1 i ≤ T) ∧ S.2.2.1 ≤ T ∧ ∀ k, S.2.2.2.testBit k = true → S.1 k + mi k ≤ T
end GG
theorem bit_up {t p k : Nat} : (t ||| 2 ^ p).testBit k = (t.testBit k || decide (p = k)) := by
  rw [Nat.testBit_or, Nat.testBit_two_pow]
section GH
variable {mi nd : Nat → Nat} {f : Nat}
theorem gbeg_le {S : GS} {T p : Nat} (h : gBd mi S T) (ho : gok nd S p) : gbeg mi nd f S p ≤ T := by
  unfold gbeg
  by_cases q : nd p = 0
  · rw [if_pos q]; exact h.1 _
  · rw [if_neg q]
    rcases ho with ho | ho
    · exact absurd ho q
    · exact Nat.max_le.mpr ⟨h.1 _, h.2.2 _ ho⟩
theorem gstep_B {S : GS} {T p : Nat} (h : gBd mi S T) (ho : gok nd S p) (hm : mi p ≤ 200) : gBd mi (gstep mi nd f S p) (T + 200) := by
  have hb := gbeg_le (f := f) h ho
  refine ⟨fun i => ?_, ?_, fun k hk => ?_⟩
  · show nup S.2.1 _ _ i ≤ _
    unfold nup
    by_cases q : i = gf S.2.1 (f - 1)
    · rw [if_pos q]; omega
    · rw [if_neg q]; have := h.1 i; omega
  · show Nat.max _ _ ≤ _
    exact Nat.max_le.mpr ⟨by have := h.2.1; omega, by omega⟩
  · show nup S.1 p _ k + mi k ≤ _
    have hk : (S.2.2.2 ||| 2 ^ p).testBit k = true := hk
    rw [bit_up, Bool.or_eq_true, decide_eq_true_eq] at hk
    unfold nup
    by_cases q : k = p
    · rw [if_pos q, q]; omega
    · rw [if_neg q]
      rcases hk with hk | hk
      · have := h.2.2 k hk; omega
      · exact absurd hk.symm q
/-- what both sides have of the pieces -/
def PieT (g : Nat → Int32) (n : Nat) (mi nd : Nat → Nat) : Prop := ∀ i, i < n → g (40 + 2 * i) = I (mi i) ∧ (1 ≤ mi i ∧ mi i ≤ 200) ∧ ((nd i = 0 ∧ g (41 + 2 * i) = -1) ∨ (1 ≤ nd i ∧ nd i ≤ i ∧ g (41 + 2 * i) = I (nd i - 1)))
/-- the model's state inside a row -/
def RM (n : Nat) (S : GS) (σ : St) : Prop := (∀ p, p < n → S.2.2.2.testBit p = true → gA σ 28 p = I (S.1 p)) ∧ ∀ i, i < 3 → gA σ 29 i = I (S.2.1 i)
theorem bit_t : ∀ t, t < 256 → ∀ k, k < 8 → ((I t >>> (I k &&& 31)) &&& 1) = (if t.testBit k = true then 1 else 0) := by decide +kernel
theorem bit_s : ∀ t, t < 256 → ∀ k, k < 8 → (I t ||| (1 <<< (I k &&& 31))) = I (t ||| 2 ^ k) := by decide +kernel
theorem bit_l : ∀ t, t < 256 → ∀ k, k < 8 → (t ||| 2 ^ k) < 256 := by decide +kernel
theorem m_fire {a2 a3 a4 a5 a6 : Int32} {σ : St} {fr : Nat → Nat} (h1 : 1 ≤ f) (h3 : f ≤ 3) (hf : ∀ i, i < 3 → gA σ 29 i = I (fr i)) (hb : ∀ i, fr i ≤ 100000) : iter (fun v : Int32 × Int32 => bX6_doneBy_96 (I f) a2 a3 a4 a5 a6 v.1 v.2 σ) FU (0, 1) = some (I (gf fr (f - 1))) := by
  refine Rn.seq (fun k => (I (gf fr k), I (k + 1))) (f - 1) (fun k hk => ?_) ?_ (by rw [FU_v]; omega)
  · show bX6_doneBy_96 (I f) a2 a3 a4 a5 a6 (I (gf fr k)) (I (k + 1)) σ = _
    have hg := gf_le fr k
    have b1 := hb (gf fr k)
    have b2 := hb (k + 1)
    unfold bX6_doneBy_96
    rw [if_neg (fun y => absurd ((I_le (by omega) (by omega)).mp y) (by omega)), ckB_t (I_in (by omega) (by omega)), ckB_t (I_in (by omega) (by omega)), I_cl (by omega), I_cl (by omega), hf _ (by omega), hf _ (by omega), show I (k + 1) + 1 = I (k + 1 + 1) from I_add (k + 1) 1]
    show _ = some (Sum.inr (I (if fr (k + 1) < fr (gf fr k) then k + 1 else gf fr k), I (k + 1 + 1)))
    by_cases q : fr (k + 1) < fr (gf fr k)
    · rw [if_neg (fun y => absurd ((I_le (by omega) (by omega)).mp y) (by omega)), if_pos q, letB_t]
    · rw [if_pos ((I_le (by omega) (by omega)).mpr (by omega)), if_neg q, letB_t]
  · show bX6_doneBy_96 (I f) a2 a3 a4 a5 a6 (I (gf fr (f - 1))) (I (f - 1 + 1)) σ = _
    unfold bX6_doneBy_96
    rw [if_pos ((I_le (by omega) (by omega)).mpr (by omega))]
theorem m_done_loop {n : Nat} (hn : n ≤ 8) (h1 : 1 ≤ f) (h3 : f ≤ 3) : ∀ (L : List Nat) (k : Nat) (S : GS) (σ : St), k + L.length = n → gA σ 2 2 = I n → PieT (gA σ 2) n mi nd → (∀ i x, L[i]? = some x → gA σ 27 (k + i) = I x ∧ x < n) → RM n S σ → gBd mi S (200 * k) → S.2.2.2 < 256 → ∃ r σ', Rn (fun v : Int32 × Int32 × Int32 × St => bX6_doneBy_30 (I f) v.1 v.2.1 v.2.2.1 v.2.2.2) (L.length + 1) (I S.2.2.2, I S.2.2.1, I k, σ) r ∧ (∀ c, c ≠ 28 → c ≠ 29 → agc σ σ' c) ∧ ((grun mi nd f S L = none ∧ r = .inl σ') ∨ ∃ S', grun mi nd f S L = some S' ∧ r = .inr (I S'.2.2.1, σ') ∧ RM n S' σ' ∧ gBd mi S' 1600) := by
  intro L
  induction L with
  | nil =>
    intro k S σ hk h2 hP hO hR hB ht
    refine ⟨.inr (I S.2.2.1, σ), σ, Rn.stop ?_, fun _ _ _ => agc.rf, Or.inr ⟨S, rfl, rfl, hR, ?_⟩⟩
    · show bX6_doneBy_30 (I f) (I S.2.2.2) (I S.2.2.1) (I k) σ = _
      unfold bX6_doneBy_30
      rw [ckB_l (by decide), show (2 : Int32).toNatClampNeg = 2 from rfl, h2, if_pos ((I_le (by omega) (by simp at hk; omega)).mpr (by simp at hk; omega))]
    · simp at hk
      exact ⟨fun i => by have := hB.1 i; omega, by have := hB.2.1; omega, fun q hq => by have := hB.2.2 q hq; omega⟩
  | cons p t ih =>
    intro k S σ hk h2 hP hO hR hB ht
    rw [List.length_cons] at hk
    obtain ⟨o1, o2⟩ := hO 0 p rfl
    rw [Nat.add_zero] at o1
    obtain ⟨p1, p2, p3⟩ := hP p o2
    have hbody : ∀ body, body = bX6_doneBy_30 (I f) (I S.2.2.2) (I S.2.2.1) (I k) σ → body = (if gok nd S p then fX6_doneBy_83 (I f) (I S.2.2.2) (I S.2.2.1) (I k) (I p) (if nd p = 0 then -1 else I (nd p - 1)) σ else some (.inl (.inl σ))) := fun body hb => by
      rw [hb]
      unfold bX6_doneBy_30
      rw [ckB_l (by decide), show (2 : Int32).toNatClampNeg = 2 from rfl, h2, if_neg (fun y => absurd ((I_le (by omega) (by omega)).mp y) (by omega)), ckB_t (I_in (by omega) (by omega)), I_cl (by omega), o1, letB_t, show (2 : Int32) * I p = I (2 * p) from I_mul 2 p, show (40 : Int32) + I (2 * p) = I (40 + 2 * p) from I_add 40 _, show I (40 + 2 * p) + 1 = I (40 + 2 * p + 1) from I_add _ 1, ckB_t (I_in (by omega) (by omega)), I_cl (by omega), letB_t, show 40 + 2 * p + 1 = 41 + 2 * p by omega]
      rcases p3 with ⟨z1, z2⟩ | ⟨z1, z2, z3⟩
      · rw [z2, if_pos rfl, if_pos z1, if_pos (show gok nd S p from Or.inl z1)]
      · have zn : ¬ I (nd p - 1) = (-1 : Int32) := fun y => by
          have y2 := congrArg Int32.toInt y
          rw [I_toInt (by omega), (by decide : (-1 : Int32).toInt = -1)] at y2
          omega
        rw [z3, if_neg zn, if_neg (show ¬ nd p = 0 by omega), bit_t _ ht _ (by omega)]
        by_cases q : S.2.2.2.testBit (nd p - 1) = true
        · rw [if_pos q, if_neg (by decide), if_pos (show gok nd S p from Or.inr q)]
        · rw [if_neg q, if_pos rfl, if_neg (show ¬ gok nd S p from fun y => y.elim (fun y => by omega) q)]
    by_cases ho : gok nd S p
    · have hbl := gbeg_le (f := f) hB ho
      have gi := gf_le S.2.1 (f - 1)
      have hBs : ∀ i, S.2.1 i ≤ 100000 := fun i => by have := hB.1 i; omega
      have hfree := hR.2 (gf S.2.1 (f - 1)) (by omega)
      have hb1 := hBs (gf S.2.1 (f - 1))
      have hlast := hB.2.1
      have hstep : bX6_doneBy_30 (I f) (I S.2.2.2) (I S.2.2.1) (I k) σ = some (.inr (I (gstep mi nd f S p).2.2.2, I (gstep mi nd f S p).2.2.1, I (k + 1), pA (pA σ 28 p (I (gbeg mi nd f S p))) 29 (gf S.2.1 (f - 1)) (I (gbeg mi nd f S p + mi p)))) := by
        rw [hbody _ rfl, if_pos ho]
        unfold fX6_doneBy_83 fX6_doneBy_96
        rw [letB_t, bit_s _ ht _ (by omega), m_fire h1 h3 hR.2 hBs, bn1_s]
        unfold xX6_doneBy_96 fX6_doneBy_134
        have h164 : ∀ x : Nat, x ≤ 100000 → gbeg mi nd f S p = Nat.max x (S.2.1 (gf S.2.1 (f - 1))) → fX6_doneBy_164 (I f) (I (S.2.2.2 ||| 2 ^ p)) (I S.2.2.1) (I k) (I p) (I (gf S.2.1 (f - 1))) (I x) σ = some (.inr (I (gstep mi nd f S p).2.2.2, I (gstep mi nd f S p).2.2.1, I (k + 1), pA (pA σ 28 p (I (gbeg mi nd f S p))) 29 (gf S.2.1 (f - 1)) (I (gbeg mi nd f S p + mi p)))) := fun x hx hg => by
          unfold fX6_doneBy_164
          rw [ckB_t (I_in (by omega) (by omega)), ckB_t (I_in (by omega) (by omega)), I_cl (show gf S.2.1 (f - 1) < 2147483648 by omega), hfree]
          have h196 : fX6_doneBy_196 (I f) (I (S.2.2.2 ||| 2 ^ p)) (I S.2.2.1) (I k) (I p) (I (gf S.2.1 (f - 1))) (I p) (I (gbeg mi nd f S p)) σ = some (.inr (I (gstep mi nd f S p).2.2.2, I (gstep mi nd f S p).2.2.1, I (k + 1), pA (pA σ 28 p (I (gbeg mi nd f S p))) 29 (gf S.2.1 (f - 1)) (I (gbeg mi nd f S p + mi p)))) := by
            unfold fX6_doneBy_196
            rw [ckB_t (I_in (by omega) (by omega)), letB_t, ckB_t (I_in (by omega) (by omega)), show (2 : Int32) * I p = I (2 * p) from I_mul 2 p, show (40 : Int32) + I (2 * p) = I (40 + 2 * p) from I_add 40 _, ckB_t (I_in (by omega) (by omega)), ckB_t (I_in (by omega) (by omega)), letB_t, ckB_t (I_in (by omega) (by omega)), I_cl (show p < 2147483648 by omega), I_cl (show 40 + 2 * p < 2147483648 by omega), I_cl (show gf S.2.1 (f - 1) < 2147483648 by omega), gA_upf (pA σ 28 p (I (gbeg mi nd f S p))) 29, gA_upf σ 28, upf_s, upf_s, gA_pA_n (show 2 ≠ 28 by omega), p1, I_add, ckB_t (I_in (by omega) (by omega)), show I k + 1 = I (k + 1) from I_add k 1]
            simp only [letB]
            have hm := (I_max (a := S.2.2.1) (b := gbeg mi nd f S p + mi p) (by omega) (by omega)).2
            show _ = some (Sum.inr (I (S.2.2.2 ||| 2 ^ p), I (Nat.max S.2.2.1 (gbeg mi nd f S p + mi p)), I (k + 1), _))
            rw [← hm]
            by_cases y : I (gbeg mi nd f S p + mi p) ≤ I S.2.2.1
            · rw [if_pos y, if_pos y]
            · rw [if_neg y, if_neg y]
          have hm := (I_max (a := x) (b := S.2.1 (gf S.2.1 (f - 1))) (by omega) (by omega)).2
          rw [← hg] at hm
          by_cases y : I (S.2.1 (gf S.2.1 (f - 1))) ≤ I x
          · rw [if_pos y] at hm ⊢
            rw [hm]
            exact h196
          · rw [if_neg y] at hm ⊢
            rw [hm]
            exact h196
        by_cases z : nd p = 0
        · rw [if_pos z, if_pos rfl]
          exact h164 0 (by omega) (by unfold gbeg; rw [if_pos z]; exact (Nat.max_eq_right (Nat.zero_le _)).symm)
        · rcases p3 with ⟨z1, -⟩ | ⟨z1, z2, z3⟩
          · exact absurd z1 z
          · have zb : S.2.2.2.testBit (nd p - 1) = true := by
              rcases ho with ho | ho
              · exact absurd ho z
              · exact ho
            have zn : ¬ I (nd p - 1) = (-1 : Int32) := fun y => by
              have y2 := congrArg Int32.toInt y
              rw [I_toInt (by omega), (by decide : (-1 : Int32).toInt = -1)] at y2
              omega
            have zB := hB.2.2 _ zb
            rw [if_neg z, if_neg zn, ckB_t (I_in (by omega) (by omega)), show (2 : Int32) * I (nd p - 1) = I (2 * (nd p - 1)) from I_mul 2 _, show (40 : Int32) + I (2 * (nd p - 1)) = I (40 + 2 * (nd p - 1)) from I_add 40 _, ckB_t (I_in (by omega) (by omega)), I_cl (by omega), I_cl (by omega), hR.1 _ (by omega) zb, (hP (nd p - 1) (by omega)).1, I_add]
            exact h164 _ (by omega) (by unfold gbeg; rw [if_neg z]; exact Nat.max_comm _ _)
      have fr' : ∀ c, c ≠ 28 → c ≠ 29 → agc σ (pA (pA σ 28 p (I (gbeg mi nd f S p))) 29 (gf S.2.1 (f - 1)) (I (gbeg mi nd f S p + mi p))) c := fun c c1 c2 => (agc.pA c1).tr (agc.pA c2)
      have key := ih (k + 1) (gstep mi nd f S p) (pA (pA σ 28 p (I (gbeg mi nd f S p))) 29 (gf S.2.1 (f - 1)) (I (gbeg mi nd f S p + mi p))) (by omega) h2 hP (fun i x hi => by
        have := hO (i + 1) x hi
        rw [show k + 1 + i = k + (i + 1) by omega]
        exact this) ?_ (by rw [show 200 * (k + 1) = 200 * k + 200 by omega]; exact gstep_B hB ho (by omega)) (bit_l _ ht _ (by omega))
      · obtain ⟨r, σ', i1, i2, i3⟩ := key
        refine ⟨r, σ', Rn.step (f := fun v : Int32 × Int32 × Int32 × St => bX6_doneBy_30 (I f) v.1 v.2.1 v.2.2.1 v.2.2.2) (a := (I S.2.2.2, I S.2.2.1, I k, σ)) hstep i1, fun c c1 c2 => (fr' c c1 c2).tr (i2 c c1 c2), ?_⟩
        rw [show grun mi nd f S (p :: t) = grun mi nd f (gstep mi nd f S p) t from if_pos ho]
        exact i3
      · refine ⟨fun c hc hb => ?_, fun i hi => ?_⟩
        · have hb : (S.2.2.2 ||| 2 ^ p).testBit c = true := hb
          rw [bit_up, Bool.or_eq_true, decide_eq_true_eq] at hb
          rw [gA_pA_n (by omega), gA_upf]
          show upf _ _ _ _ = I (nup S.1 p _ c)
          unfold upf nup
          by_cases q : c = p
          · rw [if_pos q, if_pos q]
          · rw [if_neg q, if_neg q]
            rcases hb with hb | hb
            · exact hR.1 c hc hb
            · exact absurd hb.symm q
        · rw [gA_upf, gA_pA_n (by omega)]
          show upf _ _ _ _ = I (nup S.2.1 _ _ i)
          unfold upf nup
          by_cases q : i = gf S.2.1 (f - 1)
          · rw [if_pos q, if_pos q]
          · rw [if_neg q, if_neg q]
            exact hR.2 i hi
    · refine ⟨.inl σ, σ, (Rn.stop (f := fun v : Int32 × Int32 × Int32 × St => bX6_doneBy_30 (I f) v.1 v.2.1 v.2.2.1 v.2.2.2) (a := (I S.2.2.2, I S.2.2.1, I k, σ)) ?_).le (by omega), fun _ _ _ => agc.rf, Or.inl ⟨if_neg ho, rfl⟩⟩
      show bX6_doneBy_30 (I f) (I S.2.2.2) (I S.2.2.1) (I k) σ = _
      rw [hbody _ rfl, if_neg ho]
end GH
