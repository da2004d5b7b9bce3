/-! the plain law: the gate's search -/
set_option maxRecDepth 100000
def avail (n t : Nat) : List Nat := (List.range n).filter (fun k => !t.testBit k)
theorem av_full : ∀ n, n ≤ 8 → ∀ t, t < 256 → t < 2 ^ n → ((avail n t).length = 0 ↔ t = 2 ^ n - 1) := by decide +kernel
theorem av_er : ∀ n, n ≤ 8 → ∀ t, t < 256 → ∀ k, k < n → t.testBit k = false → er k (avail n t) = avail n (t ||| 2 ^ k) := by decide +kernel
theorem av_len : ∀ n, n ≤ 8 → ∀ t, t < 256 → ∀ k, k < n → t.testBit k = false → (avail n (t ||| 2 ^ k)).length + 1 = (avail n t).length := by decide +kernel
theorem av_lt : ∀ n, n ≤ 8 → ∀ t, t < 256 → t < 2 ^ n → ∀ k, k < n → (t ||| 2 ^ k) < 2 ^ n := by decide +kernel
theorem av_0 : ∀ n, n ≤ 8 → avail n 0 = List.range n := by decide +kernel
theorem av_most : ∀ n, n ≤ 8 → ((1 <<< (I n &&& 31)) - 1 : Int32) = I (2 ^ n - 1) := by decide +kernel
theorem bit_all : ∀ n, n ≤ 8 → ∀ k, k < n → (2 ^ n - 1).testBit k = true := by decide +kernel
theorem av_le : ∀ n, n ≤ 8 → ∀ t, t < 256 → (avail n t).length ≤ n := by decide +kernel
theorem flat_filter {α β : Type} (p : α → Bool) (g : α → List β) : ∀ l : List α, (l.filter p).flatMap g = l.flatMap (fun k => if p k = true then g k else [])
  | [] => rfl
  | a :: l => by
    rw [List.flatMap_cons]
    by_cases q : p a = true
    · rw [List.filter_cons_of_pos q, List.flatMap_cons, if_pos q, flat_filter p g l]
    · rw [List.filter_cons_of_neg q, if_neg q, flat_filter p g l, List.nil_append]
section GJ
variable {mi nd : Nat → Nat} {f : Nat}
theorem gfold_app {S : GS} {acc : Nat × (Nat → Nat)} {A B : List (List Nat)} : gfold mi nd f S acc (A ++ B) = gfold mi nd f S (gfold mi nd f S acc A) B := List.foldl_append
theorem grun_last : ∀ {L : List Nat} {S S' : GS}, grun mi nd f S L = some S' → S.2.2.1 ≤ S'.2.2.1
  | [], S, S', h => by cases h; exact Nat.le_refl _
  | p :: t, S, S', h => by
    unfold grun at h
    by_cases ho : gok nd S p
    · rw [if_pos ho] at h
      exact Nat.le_trans (Nat.le_max_left _ _) (grun_last h)
    · rw [if_neg ho] at h; cases h
theorem gfold_skip {S : GS} {acc : Nat × (Nat → Nat)} (h : acc.1 ≤ S.2.2.1) : ∀ Ls, gfold mi nd f S acc Ls = acc
  | [] => rfl
  | L :: t => by
    have h1 : gupd acc (grun mi nd f S L) = acc := by
      cases hr : grun mi nd f S L with
      | none => rfl
      | some S' =>
        have := grun_last hr
        exact if_neg (by omega)
    show gfold mi nd f S (gupd acc (grun mi nd f S L)) t = acc
    rw [h1]
    exact gfold_skip h t
theorem gfold_cons {S : GS} {p : Nat} : ∀ (Ls : List (List Nat)) (acc : Nat × (Nat → Nat)), gfold mi nd f S acc (Ls.map (fun t => p :: t)) = if gok nd S p then gfold mi nd f (gstep mi nd f S p) acc Ls else acc
  | [], acc => by by_cases q : gok nd S p <;> simp [q, gfold]
  | L :: t, acc => by
    have ih := gfold_cons (S := S) (p := p) t
    show gfold mi nd f S (gupd acc (grun mi nd f S (p :: L))) (t.map (fun t => p :: t)) = _
    rw [ih]
    by_cases q : gok nd S p
    · rw [if_pos q, if_pos q, show grun mi nd f S (p :: L) = grun mi nd f (gstep mi nd f S p) L from if_pos q]
      rfl
    · rw [if_neg q, if_neg q, show grun mi nd f S (p :: L) = none from if_neg q]
      rfl
theorem gfold_le {S S' : GS} {P : List Nat} (hr : grun mi nd f S P = some S') : ∀ (Ls : List (List Nat)) (acc : Nat × (Nat → Nat)), (gfold mi nd f S acc Ls).1 ≤ acc.1 ∧ (P ∈ Ls → (gfold mi nd f S acc Ls).1 ≤ S'.2.2.1)
  | [], acc => ⟨Nat.le_refl _, fun h => absurd h (by simp)⟩
  | L :: t, acc => by
    have h1 : (gupd acc (grun mi nd f S L)).1 ≤ acc.1 := by
      cases hq : grun mi nd f S L with
      | none => exact Nat.le_refl _
      | some S2 =>
        show (if S2.2.2.1 < acc.1 then (S2.2.2.1, S2.1) else acc).1 ≤ _
        by_cases q : S2.2.2.1 < acc.1
        · rw [if_pos q]; exact Nat.le_of_lt q
        · rw [if_neg q]; exact Nat.le_refl _
    obtain ⟨i1, i2⟩ := gfold_le hr t (gupd acc (grun mi nd f S L))
    refine ⟨Nat.le_trans i1 h1, fun hm => ?_⟩
    rcases List.mem_cons.mp hm with rfl | hm
    · refine Nat.le_trans i1 ?_
      rw [hr]
      show (if S'.2.2.1 < acc.1 then (S'.2.2.1, S'.1) else acc).1 ≤ _
      by_cases q : S'.2.2.1 < acc.1
      · rw [if_pos q]; exact Nat.le_refl _
      · rw [if_neg q]; omega
    · exact i2 hm
theorem grun_id {n : Nat} (hd : ∀ i, i < n → nd i ≤ i) : ∀ (m j : Nat) (S : GS), j + m = n → (∀ k, k < j → S.2.2.2.testBit k = true) → ∃ S', grun mi nd f S (List.range' j m) = some S'
  | 0, j, S, _, _ => ⟨S, rfl⟩
  | m + 1, j, S, hj, hb => by
    have ho : gok nd S j := by
      have := hd j (by omega)
      by_cases q : nd j = 0
      · exact Or.inl q
      · exact Or.inr (hb _ (by omega))
    rw [List.range'_succ]
    show ∃ S', (if gok nd S j then grun mi nd f (gstep mi nd f S j) (List.range' (j + 1) m) else none) = some S'
    rw [if_pos ho]
    refine grun_id hd m (j + 1) _ (by omega) (fun k hk => ?_)
    show (S.2.2.2 ||| 2 ^ j).testBit k = true
    rw [bit_up, Bool.or_eq_true, decide_eq_true_eq]
    by_cases q : j = k
    · exact Or.inr q
    · exact Or.inl (hb k (by omega))
theorem grun_B : ∀ {L : List Nat} {S S' : GS} {T : Nat}, gBd mi S T → (∀ p, p ∈ L → mi p ≤ 200) → grun mi nd f S L = some S' → gBd mi S' (T + 200 * L.length)
  | [], S, S', T, h, _, hr => by cases hr; exact h
  | p :: t, S, S', T, h, hm, hr => by
    unfold grun at hr
    by_cases ho : gok nd S p
    · rw [if_pos ho] at hr
      have := grun_B (gstep_B (f := f) h ho (hm p List.mem_cons_self)) (fun q hq => hm q (List.mem_cons_of_mem _ hq)) hr
      rw [List.length_cons, show T + 200 * (t.length + 1) = T + 200 + 200 * t.length by omega]
      exact this
    · rw [if_neg ho] at hr; cases hr
/-- x's state in its search -/
def RX (n : Nat) (mi : Nat → Nat) (f : Nat) (S : GS) (acc : Nat × (Nat → Nat)) (σ : St) : Prop := (∀ p, p < n → S.2.2.2.testBit p = true → gA σ 50 p = I (S.1 p) ∧ gA σ 51 p = I (S.1 p + mi p)) ∧ (∀ i, i < 3 → gA σ 53 i = I (S.2.1 i)) ∧ gI σ 49 5 = I f ∧ gI σ 49 4 = I acc.1 ∧ acc.1 ≤ 1000000 ∧ (acc.1 < 1000000 → ∀ p, p < n → gA σ 52 p = I (acc.2 p))
/-- x's pieces -/
def PX (sh : Nat → Sh) (n : Nat) (mi nd : Nat → Nat) (σ : St) : Prop := ∃ ep, LstC σ sh 8 ep n ∧ ∀ i, i < n → ∃ q, gR σ ep i = some q ∧ (q < 49 ∨ 54 ≤ q) ∧ sh q = xD23 ∧ gI σ q 0 = I (mi i) ∧ ((nd i = 0 ∧ gI σ q 1 = -1) ∨ (1 ≤ nd i ∧ nd i ≤ i ∧ gI σ q 1 = I (nd i - 1))) ∧ 1 ≤ mi i ∧ mi i ≤ 200
def fr5 (σ0 σ : St) : Prop := ∀ c, ¬ (49 ≤ c ∧ c ≤ 53) → agc σ0 σ c
theorem fr5.rf {σ : St} : fr5 σ σ := fun _ _ => agc.rf
theorem fr5.tr {a b c : St} (h : fr5 a b) (h' : fr5 b c) : fr5 a c := fun d hd => (h d hd).tr (h' d hd)
theorem fr5.pA {σ : St} {c k : Nat} {x : Int32} (hc : 49 ≤ c ∧ c ≤ 53) : fr5 σ (pA σ c k x) := fun d hd => agc.pA (by omega)
theorem x_fire {sh : Nat → Sh} {FG : Int32 → Int32 → St → Option St} {a1 a2 a3 : Int32} {a4 : Nat} {σ : St} {fr : Nat → Nat} (h1 : 1 ≤ f) (h3 : f ≤ 3) (hf : ∀ i, i < 3 → gA σ 53 i = I (fr i)) (hb : ∀ i, fr i ≤ 100000) (h5 : gI σ 49 5 = I f) : iter (fun v : Int32 × Int32 => bX5_goes_128 sh FG a1 a2 a3 a4 v.1 v.2 σ) FU (0, 1) = some (I (gf fr (f - 1))) := by
  refine Rn.seq (fun k => (I (gf fr k), I (k + 1))) (f - 1) (fun k hk => ?_) ?_ (by rw [FU_v]; omega)
  · show bX5_goes_128 sh FG a1 a2 a3 a4 (I (gf fr k)) (I (k + 1)) σ = _
    have hg := gf_le fr k
    have b1 := hb (gf fr k)
    have b2 := hb (k + 1)
    unfold bX5_goes_128
    rw [h5, if_neg (fun y => absurd ((I_le (by omega) (by omega)).mp y) (by omega)), ckB_t (I_in (by omega) (by omega)), ckB_t (I_in (by omega) (by omega)), I_cl (by omega), I_cl (by omega), hf _ (by omega), hf _ (by omega), show I (k + 1) + 1 = I (k + 1 + 1) from I_add (k + 1) 1]
    show _ = some (Sum.inr (I (if fr (k + 1) < fr (gf fr k) then k + 1 else gf fr k), I (k + 1 + 1)))
    by_cases q : fr (k + 1) < fr (gf fr k)
    · rw [if_neg (fun y => absurd ((I_le (by omega) (by omega)).mp y) (by omega)), if_pos q, letB_t]
    · rw [if_pos ((I_le (by omega) (by omega)).mpr (by omega)), if_neg q, letB_t]
  · show bX5_goes_128 sh FG a1 a2 a3 a4 (I (gf fr (f - 1))) (I (f - 1 + 1)) σ = _
    unfold bX5_goes_128
    rw [h5, if_pos ((I_le (by omega) (by omega)).mpr (by omega))]
end GJ
