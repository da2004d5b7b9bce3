/-! the plain law: sums and tests, trees against signs -/
set_option maxRecDepth 100000
/-- another rest -/
def s13 (σ : St) (g : Nat → Int32) : St := (σ.1, σ.2.1, (fun c => if c = 13 then g else σ.2.2.1 c), σ.2.2.2)
theorem s13_g (σ : St) (g : Nat → Int32) : gA (s13 σ g) 13 = g := rfl
theorem s13_2 (σ : St) (g : Nat → Int32) : gA (s13 σ g) 2 = gA σ 2 := rfl
theorem s13_10 (σ : St) (g : Nat → Int32) : gA (s13 σ g) 10 = gA σ 10 := rfl
theorem s13_I (σ : St) (g : Nat → Int32) (c k : Nat) : gI (s13 σ g) c k = gI σ c k := rfl
theorem s13_pA (σ : St) (g : Nat → Int32) (i : Nat) (x : Int32) : pA (s13 σ g) 13 i x = s13 σ (upf g i x) := by
  unfold pA s13 u2
  refine Prod.ext rfl (Prod.ext rfl (Prod.ext ?_ rfl))
  funext c k
  show (if c = 13 ∧ k = i then x else (if c = 13 then g else σ.2.2.1 c) k) = (if c = 13 then upf g i x else σ.2.2.1 c) k
  by_cases h : c = 13
  · rw [if_pos h, if_pos h]
    unfold upf
    by_cases h2 : k = i
    · rw [if_pos ⟨h, h2⟩, if_pos h2]
    · rw [if_neg (fun z => h2 z.2), if_neg h2]
  · rw [if_neg (fun z => h z.1), if_neg h, if_neg h]
theorem s13_self (σ : St) : s13 σ (gA σ 13) = σ := by
  unfold s13 gA
  refine Prod.ext rfl (Prod.ext rfl (Prod.ext ?_ rfl))
  funext c k
  show (if c = 13 then σ.2.2.1 13 else σ.2.2.1 c) k = _
  by_cases h : c = 13
  · rw [if_pos h, h]
  · rw [if_neg h]
theorem s13_s (σ : St) (g g' : Nat → Int32) : s13 (s13 σ g) g' = s13 σ g' := by
  unfold s13
  refine Prod.ext rfl (Prod.ext rfl (Prod.ext ?_ rfl))
  funext c k
  show (if c = 13 then g' else (if c = 13 then g else σ.2.2.1 c)) k = (if c = 13 then g' else σ.2.2.1 c) k
  by_cases h : c = 13
  · rw [if_pos h, if_pos h]
  · rw [if_neg h, if_neg h, if_neg h]
abbrev rB (t last : Nat) : Int32 × Int32 × St → Option ((Int32 × St) ⊕ (Int32 × Int32 × St)) := fun w => bX6_reckon_6 (I t) (I last) w.1 w.2.1 w.2.2
/-- the signs c stand at the places from k on -/
def cAt (f : Nat → Int32) (t k : Nat) (c : List (Int32 × Int32)) : Prop := ∀ i q, c[i]? = some q → f (t + 180 + 2 * (k + i)) = q.1 ∧ f (t + 181 + 2 * (k + i)) = q.2
theorem cAt.app {f : Nat → Int32} {t k : Nat} {c d : List (Int32 × Int32)} (h : cAt f t k (c ++ d)) : cAt f t k c ∧ cAt f t (k + c.length) d := by
  refine ⟨fun i q hq => ?_, fun i q hq => ?_⟩
  · exact h i q (by rw [List.getElem?_append_left (List.getElem?_eq_some_iff.mp hq).1]; exact hq)
  · have := h (c.length + i) q (by rw [List.getElem?_append_right (by omega), Nat.add_sub_cancel_left]; exact hq)
    rw [show k + c.length + i = k + (c.length + i) by omega]
    exact this
theorem cAt.one {f : Nat → Int32} {t k : Nat} {q : Int32 × Int32} (h : cAt f t k [q]) : f (t + 180 + 2 * k) = q.1 ∧ f (t + 181 + 2 * k) = q.2 := h 0 q rfl
section MR2
variable {t last n k : Nat} {σm : St} {g : Nat → Int32}
theorem r_idx (t k : Nat) : (I t + 180) + 2 * I k = I (t + 180 + 2 * k) := by
  rw [show I t + 180 = I (t + 180) from I_add t 180, show (2 : Int32) * I k = I (2 * k) from I_mul 2 k]
  exact I_add _ _
theorem r_idx1 (t k : Nat) : I (t + 180 + 2 * k) + 1 = I (t + 181 + 2 * k) := (I_add _ 1).trans (by congr 1; omega)
theorem r_push (hn : n < 400) {x : Int32} : fX6_reckon_111 (I t) (I last) (I n) (I k) (I n) x (s13 σm g) = some (.inr (I (n + 1), I (k + 1), s13 σm (upf g n x))) := by
  unfold fX6_reckon_111
  rw [ckB_t (I_in hn (by omega)), letB_t, I_cl (by omega), letB_t, letB_t, s13_pA, show I n + 1 = I (n + 1) from I_add n 1, show I k + 1 = I (k + 1) from I_add k 1]
theorem r_head (hk : k < last) (hl : last ≤ 400) (ht : t ≤ 7060) {x : Int32} (hx : gA σm 2 (t + 180 + 2 * k) = x) {r : Option ((Int32 × St) ⊕ (Int32 × Int32 × St))} (h : letB x (fun x3 => if 4 < x3 then if x3 = 27 then ckB (I n - 1) 400 (ckB (I n - 1) 400 (letB (pA (s13 σm g) 13 (I n - 1).toNatClampNeg (1 - (gA (s13 σm g) 13 (I n - 1).toNatClampNeg))) (fun σ31 => letB (I k + 1) (fun x32 => some (.inr (I n, x32, σ31)))))) else if x3 < 32 then letB (I n + (-1)) (fun x7 => ckB (x7 - 1) 400 (ckB x7 400 (bn1 (fX6_joined x3 (gA (s13 σm g) 13 (x7 - 1).toNatClampNeg) (gA (s13 σm g) 13 x7.toNatClampNeg)) (fun r10 => ckB (x7 - 1) 400 (letB (pA (s13 σm g) 13 (x7 - 1).toNatClampNeg r10) (fun σ12 => letB (I k + 1) (fun x13 => some (.inr (x7, x13, σ12))))))))) else ckB (I n - 1) 400 (letB (gA (s13 σm g) 13 (I n - 1).toNatClampNeg) (fun x15 => bn1 (fX6_isCell (x15.toInt64) (s13 σm g)) (fun r16 => if r16 = 0 then ckB (I n - 1) 400 (letB (pA (s13 σm g) 13 (I n - 1).toNatClampNeg 0) (fun σ27 => letB (I k + 1) (fun x28 => some (.inr (I n, x28, σ27))))) else if x3 = 32 then ckB x15 5 (ckB (I n - 1) 400 (letB (pA (s13 σm g) 13 (I n - 1).toNatClampNeg (gA (s13 σm g) 10 x15.toNatClampNeg)) (fun σ24 => letB (I k + 1) (fun x25 => some (.inr (I n, x25, σ24)))))) else ckB (I n - 1) 400 (letB (pA (s13 σm g) 13 (I n - 1).toNatClampNeg (((gI (s13 σm g) 0 26) >>> (x15 &&& 31)) &&& 1)) (fun σ20 => letB (I k + 1) (fun x21 => some (.inr (I n, x21, σ20)))))))) else if x3 = 0 then ckB (I (t + 181 + 2 * k)) 8060 (fX6_reckon_111 (I t) (I last) (I n) (I k) (I n) (gA (s13 σm g) 2 (t + 181 + 2 * k)) (s13 σm g)) else if x3 = 1 then ckB 0 8060 (fX6_reckon_111 (I t) (I last) (I n) (I k) (I n) (gA (s13 σm g) 2 (0 : Int32).toNatClampNeg) (s13 σm g)) else if x3 = 2 then fX6_reckon_111 (I t) (I last) (I n) (I k) (I n) (gI (s13 σm g) 0 27) (s13 σm g) else if x3 = 3 then fX6_reckon_111 (I t) (I last) (I n) (I k) (I n) (gI (s13 σm g) 0 29) (s13 σm g) else fX6_reckon_111 (I t) (I last) (I n) (I k) (I n) (gI (s13 σm g) 0 30) (s13 σm g)) = r) : rB t last (I n, I k, s13 σm g) = r := by
  rw [← h]
  show bX6_reckon_6 (I t) (I last) (I n) (I k) (s13 σm g) = _
  unfold bX6_reckon_6
  rw [if_neg (fun q => absurd ((I_le (by omega) (by omega)).mp q) (by omega)), r_idx, r_idx1, ckB_t (I_in (by omega) (by omega)), I_cl (by omega), I_cl (by omega), show gA (s13 σm g) 2 (t + 180 + 2 * k) = x from hx]
theorem r_lit (hk : k < last) (hl : last ≤ 400) (ht : t ≤ 7060) (hn : n < 400) {v : Int32} (hc : cAt (gA σm 2) t k [(0, v)]) : rB t last (I n, I k, s13 σm g) = some (.inr (I (n + 1), I (k + 1), s13 σm (upf g n v))) := by
  refine r_head (x := 0) hk hl ht hc.one.1 ?_
  rw [letB_t, if_neg (by decide), if_pos rfl, ckB_t (I_in (by omega) (by omega)), r_push hn, s13_2, hc.one.2]
/-- what a Told tells -/
def mTold (σm : St) : Nat → Int32
  | 0 => gA σm 2 0
  | 1 => gI σm 0 27
  | 2 => gI σm 0 29
  | _ => gI σm 0 30
theorem r_told (hk : k < last) (hl : last ≤ 400) (ht : t ≤ 7060) (hn : n < 400) {w : Nat} (hw : w < 4) (hc : cAt (gA σm 2) t k [(I (w + 1), 0)]) : rB t last (I n, I k, s13 σm g) = some (.inr (I (n + 1), I (k + 1), s13 σm (upf g n (mTold σm w)))) := by
  refine r_head hk hl ht hc.one.1 ?_
  rcases (show w = 0 ∨ w = 1 ∨ w = 2 ∨ w = 3 by omega) with rfl | rfl | rfl | rfl
  · rw [letB_t, if_neg (by decide), if_neg (by decide), if_pos (by decide), r_push hn]
    rfl
  · rw [letB_t, if_neg (by decide), if_neg (by decide), if_neg (by decide), if_pos (by decide), r_push hn]
    rfl
  · rw [letB_t, if_neg (by decide), if_neg (by decide), if_neg (by decide), if_neg (by decide), if_pos (by decide), r_push hn]
    rfl
  · rw [letB_t, if_neg (by decide), if_neg (by decide), if_neg (by decide), if_neg (by decide), if_neg (by decide), r_push hn]
    rfl
theorem I_m1 (n : Nat) (hn : n < 1000) : I (n + 1) - 1 = I n := (I_sub (b := 1) (by omega) (by omega)).trans (by rw [Nat.add_sub_cancel])
theorem I_p1 (n : Nat) (hn : n < 1000) : I (n + 1) + (-1) = I n := by
  have : I (n + 1) + (-1) = I (n + 1) - 1 := (Int32.sub_eq_add_neg _ _).symm
  rw [this, I_m1 n hn]
theorem r_bin (hk : k < last) (hl : last ≤ 400) (ht : t ≤ 7060) (hn : n + 1 < 400) {op r : Int32} (h4 : 4 < op) (h27 : ¬ op = 27) (h32 : op < 32) (hj : fX6_joined op (g n) (g (n + 1)) = some r) (hc : cAt (gA σm 2) t k [(op, 0)]) : rB t last (I (n + 2), I k, s13 σm g) = some (.inr (I (n + 1), I (k + 1), s13 σm (upf g n r))) := by
  refine r_head hk hl ht hc.one.1 ?_
  rw [letB_t, if_pos h4, if_neg h27, if_pos h32, letB_t, I_p1 (n + 1) (by omega), I_m1 n (by omega), ckB_t (I_in (by omega) (by omega)), ckB_t (I_in (by omega) (by omega)), I_cl (by omega), I_cl (by omega), s13_g, hj, bn1_s, ckB_t (I_in (by omega) (by omega)), letB_t, letB_t, s13_pA, show I k + 1 = I (k + 1) from I_add k 1]
theorem r_not (hk : k < last) (hl : last ≤ 400) (ht : t ≤ 7060) (hn : n < 400) (hc : cAt (gA σm 2) t k [(27, 0)]) : rB t last (I (n + 1), I k, s13 σm g) = some (.inr (I (n + 1), I (k + 1), s13 σm (upf g n (1 - g n)))) := by
  refine r_head hk hl ht hc.one.1 ?_
  rw [letB_t, if_pos (by decide), if_pos rfl, I_m1 n (by omega), ckB_t (I_in (by omega) (by omega)), ckB_t (I_in (by omega) (by omega)), I_cl (by omega), letB_t, letB_t, s13_pA, s13_g, show I k + 1 = I (k + 1) from I_add k 1]
def mIron (σm : St) (x : Int32) : Int32 := if 0 ≤ x.toInt ∧ x.toInt < (gA σm 2 0).toInt then gA σm 10 x.toNatClampNeg else 0
def mHot (σm : St) (x : Int32) : Int32 := if 0 ≤ x.toInt ∧ x.toInt < (gA σm 2 0).toInt then ((gI σm 0 26) >>> (x &&& 31)) &&& 1 else 0
theorem r_iron (hk : k < last) (hl : last ≤ 400) (ht : t ≤ 7060) (hn : n < 400) (h5 : (gA σm 2 0).toInt ≤ 5) (hc : cAt (gA σm 2) t k [(32, 0)]) : rB t last (I (n + 1), I k, s13 σm g) = some (.inr (I (n + 1), I (k + 1), s13 σm (upf g n (mIron σm (g n))))) := by
  refine r_head hk hl ht hc.one.1 ?_
  rw [letB_t, if_pos (by decide), if_neg (by decide), if_neg (by decide), I_m1 n (by omega), ckB_t (I_in (by omega) (by omega)), letB_t, I_cl (by omega), s13_g, m_isC, bn1_s, if01, ti64, s13_2]
  unfold mIron
  by_cases q : 0 ≤ (g n).toInt ∧ (g n).toInt < (gA σm 2 0).toInt
  · rw [if_pos q, if_pos q, if_pos rfl, ckB_t (in_of q.1 (by omega)), ckB_t (I_in (by omega) (by omega)), letB_t, letB_t, s13_pA, s13_10, show I k + 1 = I (k + 1) from I_add k 1]
  · rw [if_neg q, if_neg q, ckB_t (I_in (by omega) (by omega)), letB_t, letB_t, s13_pA, show I k + 1 = I (k + 1) from I_add k 1]
theorem r_hot (hk : k < last) (hl : last ≤ 400) (ht : t ≤ 7060) (hn : n < 400) (hc : cAt (gA σm 2) t k [(33, 0)]) : rB t last (I (n + 1), I k, s13 σm g) = some (.inr (I (n + 1), I (k + 1), s13 σm (upf g n (mHot σm (g n))))) := by
  refine r_head hk hl ht hc.one.1 ?_
  rw [letB_t, if_pos (by decide), if_neg (by decide), if_neg (by decide), I_m1 n (by omega), ckB_t (I_in (by omega) (by omega)), letB_t, I_cl (by omega), s13_g, m_isC, bn1_s, if01, ti64, s13_2]
  unfold mHot
  by_cases q : 0 ≤ (g n).toInt ∧ (g n).toInt < (gA σm 2 0).toInt
  · rw [if_pos q, if_pos q, if_neg (by decide), ckB_t (I_in (by omega) (by omega)), letB_t, letB_t, s13_pA, s13_I, show I k + 1 = I (k + 1) from I_add k 1]
  · rw [if_neg q, if_neg q, ckB_t (I_in (by omega) (by omega)), letB_t, letB_t, s13_pA, show I k + 1 = I (k + 1) from I_add k 1]
end MR2
/-- the model's signs c from place k on make the value v -/
def MEv (t k : Nat) (σm : St) (c : List (Int32 × Int32)) (v : Int32) : Prop := ∀ (n last : Nat) (g : Nat → Int32), n + c.length ≤ 400 → k + c.length ≤ last → last ≤ 400 → ∃ g' : Nat → Int32, g' n = v ∧ (∀ i, i < n → g' i = g i) ∧ ∀ K b, Rn (rB t last) K (I (n + 1), I (k + c.length), s13 σm g') b → Rn (rB t last) (K + c.length) (I n, I k, s13 σm g) b
theorem MEv.one {t k : Nat} {σm : St} {q : Int32 × Int32} {v : Int32} (h : ∀ (n last : Nat) (g : Nat → Int32), n < 400 → k < last → last ≤ 400 → rB t last (I n, I k, s13 σm g) = some (.inr (I (n + 1), I (k + 1), s13 σm (upf g n v)))) : MEv t k σm [q] v := by
  intro n last g h1 h2 h3
  refine ⟨upf g n v, upf_s _ _ _, fun i hi => upf_n (by omega), fun K b hr => ?_⟩
  exact Rn.step (h n last g (by simp only [List.length_singleton] at h1; omega) (by simp only [List.length_singleton] at h2; omega) h3) hr
/-- one sign on one value -/
theorem MEv.un {t k : Nat} {σm : St} {c : List (Int32 × Int32)} {q : Int32 × Int32} {v v' : Int32} (h : MEv t k σm c v) (hs : ∀ (n last : Nat) (g : Nat → Int32), g n = v → n < 400 → k + c.length < last → last ≤ 400 → rB t last (I (n + 1), I (k + c.length), s13 σm g) = some (.inr (I (n + 1), I (k + c.length + 1), s13 σm (upf g n v')))) : MEv t k σm (c ++ [q]) v' := by
  intro n last g h1 h2 h3
  rw [List.length_append, List.length_singleton] at h1 h2 ⊢
  obtain ⟨g1, e1, e2, e3⟩ := h n last g (by omega) (by omega) h3
  refine ⟨upf g1 n v', upf_s _ _ _, fun i hi => (upf_n (by omega)).trans (e2 i hi), fun K b hr => ?_⟩
  have := e3 (K + 1) b (Rn.step (hs n last g1 e1 (by omega) (by omega) h3) hr)
  rw [show K + (c.length + 1) = K + 1 + c.length by omega]
  exact this
/-- one sign on two -/
theorem MEv.bin {t k : Nat} {σm : St} {c d : List (Int32 × Int32)} {q : Int32 × Int32} {v w r : Int32} (h : MEv t k σm c v) (hd : MEv t (k + c.length) σm d w) (hs : ∀ (n last : Nat) (g : Nat → Int32), g n = v → g (n + 1) = w → n + 1 < 400 → k + c.length + d.length < last → last ≤ 400 → rB t last (I (n + 2), I (k + c.length + d.length), s13 σm g) = some (.inr (I (n + 1), I (k + c.length + d.length + 1), s13 σm (upf g n r)))) (hd1 : 1 ≤ c.length) : MEv t k σm (c ++ d ++ [q]) r := by
  intro n last g h1 h2 h3
  rw [List.length_append, List.length_append, List.length_singleton] at h1 h2 ⊢
  obtain ⟨g1, e1, e2, e3⟩ := h n last g (by omega) (by omega) h3
  obtain ⟨g2, f1, f2, f3⟩ := hd (n + 1) last g1 (by omega) (by omega) h3
  refine ⟨upf g2 n r, upf_s _ _ _, fun i hi => (upf_n (by omega)).trans ((f2 i (by omega)).trans (e2 i hi)), fun K b hr => ?_⟩
  have a1 := Rn.step (hs n last g2 ((f2 n (by omega)).trans e1) f1 (by omega) (by omega) h3) (by rw [show k + c.length + d.length + 1 = k + (c.length + d.length + 1) by omega]; exact hr)
  have a2 := f3 (K + 1) b a1
  have a3 := e3 (K + 1 + d.length) b a2
  rw [show K + (c.length + d.length + 1) = K + 1 + d.length + c.length by omega]
  exact a3
