/-! the plain law: all that a heat leads to, both sides -/
set_option maxRecDepth 100000
theorem tgb : ∀ tg, tg < 1024 → ∀ k, k < 11 → ((I tg >>> (I k &&& 31)) &&& 1) = (if (tg >>> k) % 2 = 1 then 1 else 0) := by decide +kernel
/-- x's searcher -/
def PQ (q n tg bl m : Nat) (σ : St) : Prop := (gI σ q 10 = I n ∧ gI σ q 11 = I bl ∧ powOK n (gA σ (q + 7))) ∧ gI σ 2 6 = I tg ∧ gI σ q 13 = I m ∧ ∀ r, r < 59049 → 0 ≤ (gA σ (q + 4) r).toInt ∧ (gA σ (q + 4) r).toInt ≤ m
/-- the model's -/
def PM (n tg m : Nat) (σ : St) : Prop := (gA σ 2 0 = I n ∧ powOK n (gA σ 18)) ∧ gA σ 2 3 = I tg ∧ gI σ 0 56 = I m ∧ ∀ r, r < 59049 → 0 ≤ (gA σ 23 r).toInt ∧ (gA σ 23 r).toInt ≤ m
/-- what was found -/
def Fnd (cm fm cf : Nat) (L : List Nat) (σ : St) : Prop := gI σ cm fm = I L.length ∧ ∀ i x, L[i]? = some x → gA σ cf i = I x
def FrQ (q : Nat) (σ σ' : St) : Prop := (∀ c, c ≠ q → c ≠ q + 4 → c ≠ q + 5 → c ≠ q + 6 → agc σ σ' c) ∧ ∀ k, k ≠ 12 → k ≠ 13 → gI σ' q k = gI σ q k
def FrM (σ σ' : St) : Prop := (∀ c, c ≠ 0 → c ≠ 23 → c ≠ 24 → agc σ σ' c) ∧ ∀ k, k ≠ 58 → k ≠ 56 → gI σ' 0 k = gI σ 0 k
theorem FrQ.rf {q : Nat} {σ : St} : FrQ q σ σ := ⟨fun _ _ _ _ _ => agc.rf, fun _ _ _ => rfl⟩
theorem FrM.rf {σ : St} : FrM σ σ := ⟨fun _ _ _ _ => agc.rf, fun _ _ _ => rfl⟩
theorem FrQ.tr {q : Nat} {a b c : St} (h : FrQ q a b) (h' : FrQ q b c) : FrQ q a c := ⟨fun d d1 d2 d3 d4 => (h.1 d d1 d2 d3 d4).tr (h'.1 d d1 d2 d3 d4), fun k h1 h2 => (h'.2 k h1 h2).trans (h.2 k h1 h2)⟩
theorem FrM.tr {a b c : St} (h : FrM a b) (h' : FrM b c) : FrM a c := ⟨fun d d1 d2 d3 => (h.1 d d1 d2 d3).tr (h'.1 d d1 d2 d3), fun k h1 h2 => (h'.2 k h1 h2).trans (h.2 k h1 h2)⟩
def heldK (n tg v p k : Nat) : Bool := (List.range k).any (fun c => !near c p && (tg >>> (dg n v c + 1)) % 2 == 1)
theorem heldK_s (n tg v p k : Nat) : heldK n tg v p (k + 1) = (heldK n tg v p k || (!near k p && (tg >>> (dg n v k + 1)) % 2 == 1)) := by
  unfold heldK
  rw [List.range_succ, List.any_append]
  simp
theorem heldK_v {n tg v p k : Nat} : I (if heldK n tg v p (k + 1) = true then 1 else 0) = if I (if heldK n tg v p k = true then 1 else 0) = 0 then if nearP k p then 0 else if (if (tg >>> (dg n v k + 1)) % 2 = 1 then (1 : Int32) else 0) = 1 then 1 else 0 else 1 := by
  rw [heldK_s]
  by_cases h1 : heldK n tg v p k = true
  · rw [h1]; rfl
  · have h1' : heldK n tg v p k = false := by simpa using h1
    rw [h1', Bool.false_or]
    rw [if_neg (show ¬ (false = true) by decide), if_pos (show I 0 = 0 from rfl)]
    by_cases h2 : nearP k p
    · have : near k p = true := near_P.mpr h2
      rw [this, if_pos h2]; rfl
    · have : near k p = false := by
        cases hh : near k p with
        | false => rfl
        | true => exact absurd (near_P.mp hh) h2
      rw [this, if_neg h2]
      by_cases h3 : (tg >>> (dg n v k + 1)) % 2 = 1
      · simp [h3]; rfl
      · simp [h3]; rfl
section ZX
variable {q n tg bl m p v : Nat} {σ : St}
theorem xp_held (hn : n ≤ 5) (hp : p < n) (hv : v < 9 ^ n) (htg : tg < 1024) (h10 : gI σ q 10 = I n) (hpw : powOK n (gA σ (q + 7))) (h26 : gI σ 2 6 = I tg) : iter (fun w : Int32 × Int32 => bX3_leads_10 q (I v) (I p) w.1 w.2 σ) FU (0, 0) = some (I (if held n tg v p = true then 1 else 0)) := by
  have hp9 := pow9_le hn (Nat.le_refl n)
  refine Rn.seq (fun k => (I (if heldK n tg v p k = true then 1 else 0), I k)) n (fun k hk => ?_) ?_ (by rw [FU_v]; omega)
  · show bX3_leads_10 q (I v) (I p) (I (if heldK n tg v p k = true then 1 else 0)) (I k) σ = some (.inr (I (if heldK n tg v p (k + 1) = true then 1 else 0), I (k + 1)))
    have hd := dg_lt n v k
    unfold bX3_leads_10 fX3_leads_58
    rw [h10, if_neg (fun y => absurd ((I_le (by omega) (by omega)).mp y) (by omega)), x_iron hn hk (by omega) hpw, bn1_s, h26, tgb tg htg _ (by omega), heldK_v]
    simp only [letB]
    rw [show I k + 1 = I (k + 1) from I_add k 1]
    by_cases h1 : I (if heldK n tg v p k = true then 1 else 0) = 0
    · rw [if_pos h1, if_pos h1]
      by_cases h2 : nearP k p
      · rw [if_pos ((x_near k (by omega) p (by omega)).mpr h2), if_pos h2]
      · rw [if_neg (fun y => h2 ((x_near k (by omega) p (by omega)).mp y)), if_neg h2]
        by_cases h3 : (if (tg >>> (dg n v k + 1)) % 2 = 1 then (1 : Int32) else 0) = 1
        · rw [if_pos h3, if_pos h3]
        · rw [if_neg h3, if_neg h3]
    · rw [if_neg h1, if_neg h1]
  · show bX3_leads_10 q (I v) (I p) _ (I n) σ = _
    unfold bX3_leads_10
    rw [h10, if_pos ((I_le (by omega) (by omega)).mpr (Nat.le_refl n))]
    rfl
theorem mp_held {a3 : Int32} (hn : n ≤ 5) (hp : p < n) (hv : v < 9 ^ n) (htg : tg < 1024) (h10 : gA σ 2 0 = I n) (hpw : powOK n (gA σ 18)) (h26 : gA σ 2 3 = I tg) : iter (fun w : Int32 × Int32 => bX6_findSpread_21 (I v) (I p) a3 w.1 w.2 σ) FU (0, 0) = some (I (if held n tg v p = true then 1 else 0)) := by
  have hp9 := pow9_le hn (Nat.le_refl n)
  refine Rn.seq (fun k => (I (if heldK n tg v p k = true then 1 else 0), I k)) n (fun k hk => ?_) ?_ (by rw [FU_v]; omega)
  · show bX6_findSpread_21 (I v) (I p) a3 (I (if heldK n tg v p k = true then 1 else 0)) (I k) σ = some (.inr (I (if heldK n tg v p (k + 1) = true then 1 else 0), I (k + 1)))
    have hd := dg_lt n v k
    unfold bX6_findSpread_21 fX6_findSpread_66
    rw [ckB_l (by decide), ckB_l (by decide), show (0 : Int32).toNatClampNeg = 0 from rfl, show (3 : Int32).toNatClampNeg = 3 from rfl, h10, if_neg (fun y => absurd ((I_le (by omega) (by omega)).mp y) (by omega)), m_iron hn hk (by omega) hpw, bn1_s, h26, tgb tg htg _ (by omega), heldK_v, m_near k (by omega) p (by omega), bn1_s, if01]
    simp only [letB]
    rw [show I k + 1 = I (k + 1) from I_add k 1]
    by_cases h1 : I (if heldK n tg v p k = true then 1 else 0) = 0
    · rw [if_pos h1, if_pos h1]
      by_cases h2 : nearP k p
      · rw [if_pos h2, if_pos h2]
      · rw [if_neg h2, if_neg h2]
        by_cases h3 : (if (tg >>> (dg n v k + 1)) % 2 = 1 then (1 : Int32) else 0) = 1
        · rw [if_pos h3, if_pos h3]
        · rw [if_neg h3, if_neg h3]
    · rw [if_neg h1, if_neg h1]
  · show bX6_findSpread_21 (I v) (I p) a3 _ (I n) σ = _
    unfold bX6_findSpread_21
    rw [ckB_l (by decide), show (0 : Int32).toNatClampNeg = 0 from rfl, h10, if_pos ((I_le (by omega) (by omega)).mpr (Nat.le_refl n))]
    rfl
/-- where a heat begins -/
def spr0 (n v p : Nat) : Nat := if 1 ≤ dg n v p then v - 9 ^ (n - 1 - p) else v
theorem spr_e : spr n tg bl v p = if held n tg v p = true then rnds n p bl [spr0 n v p] 0 else [] := rfl
theorem spr0_lt (hv : v < 9 ^ n) : spr0 n v p < 9 ^ n := by
  unfold spr0
  by_cases z : 1 ≤ dg n v p
  · rw [if_pos z]; exact Nat.lt_of_le_of_lt (Nat.sub_le _ _) hv
  · rw [if_neg z]; exact hv
theorem x_leads (hn : n ≤ 5) (hp : p < n) (hv : v < 9 ^ n) (htg : tg < 1024) (hbl : bl < 100) (hq : q ≠ 2) (hm : m + 1 < 2147483648) (h : PQ q n tg bl m σ) : ∃ σ' m', fX3_leads q (I v) (I p) σ = some σ' ∧ (m' ≤ m + 1 ∧ PQ q n tg bl m' σ') ∧ Fnd q 12 (q + 5) (spr n tg bl v p) σ' ∧ ((∀ x, x ∈ spr n tg bl v p → x < 9 ^ n) ∧ (spr n tg bl v p).length ≤ 59049) ∧ FrQ q σ σ' := by
  obtain ⟨⟨h1, h2, h3⟩, h4, h5, h6⟩ := h
  have hp9 := pow9_le hn (Nat.le_refl n)
  unfold fX3_leads fX3_leads_10
  rw [letB_t, xp_held (σ := pI σ q 12 0) hn hp hv htg (by rw [gI_pI, if_neg (by omega)]; exact h1) h3 (by rw [gI_pI, if_neg (by omega)]; exact h4), bn1_s]
  unfold xX3_leads_10 fX3_leads_70
  rw [spr_e]
  by_cases hh : held n tg v p = true
  · rw [if_pos hh, if_neg (show ¬ I 1 = 0 by decide), if_pos hh, letB_t]
    have e13 : gI (pI σ q 12 0) q 13 = I m := by rw [gI_pI, if_neg (by omega)]; exact h5
    rw [e13, show I m + 1 = I (m + 1) from I_add m 1]
    generalize hs : pI (pI σ q 12 0) q 13 (I (m + 1)) = s
    have sI : ∀ c k, c ≠ q ∨ (k ≠ 12 ∧ k ≠ 13) → gI s c k = gI σ c k := fun c k hc => by rw [← hs, gI_pI, if_neg (by omega), gI_pI, if_neg (by omega)]
    have sA : ∀ c, gA s c = gA σ c := fun c => by rw [← hs]; rfl
    have sp : SpL q 12 13 (q + 4) (q + 5) [] (m + 1) s := by
      refine ⟨by rw [← hs, gI_pI, if_neg (by omega), gI_pI, if_pos ⟨rfl, rfl⟩]; rfl, by rw [← hs, gI_pI, if_pos ⟨rfl, rfl⟩], fun i x hi => by simp at hi, fun x hx => absurd hx (by simp), List.nodup_nil, fun r hr => ?_⟩
      have := h6 r hr
      rw [sA]
      refine ⟨⟨fun y => ?_, fun y => absurd y (by simp)⟩, this.1, by omega⟩
      rw [y, I_toInt hm] at this
      omega
    have hd := dg_lt n v p
    have hstart : ∃ s1, bn1 (fX3_ironAt q (I v) (I p) s) (fun r3 => if r3 ≤ 1 then bn1 (fX3_adds q (I v) 0 s) (fun σ6 => fX3_leads_115 q (I p) 0 σ6) else ckB (I p) 5 (bn1 (fX3_adds q (I v - gA s (q + 7) (I p).toNatClampNeg) 0 s) (fun σ9 => fX3_leads_115 q (I p) 0 σ9))) = fX3_leads_115 q (I p) 0 s1 ∧ SpL q 12 13 (q + 4) (q + 5) [spr0 n v p] (m + 1) s1 ∧ (∀ c, c ≠ q → c ≠ q + 4 → c ≠ q + 5 → c ≠ q + 6 → agc s s1 c) ∧ (∀ k, k ≠ 12 → gI s1 q k = gI s q k) ∧ gA s1 (q + 6) 0 = I 0 := by
      have s0lt := spr0_lt (n := n) (v := v) (p := p) hv
      obtain ⟨s1, x1, x2, x3, x4, x5⟩ := x_adds (d := 0) sp hm (show spr0 n v p < 59049 by omega)
      refine ⟨s1, ?_, x2, x3, x4, by rw [x5 0, if_pos ⟨rfl, by simp⟩]⟩
      rw [x_iron hn hp (by omega) (fun c hc => by rw [sA]; exact h3 c hc), bn1_s]
      have x1' : fX3_adds q (I (spr0 n v p)) 0 s = some s1 := x1
      unfold spr0 at x1'
      by_cases z : 1 ≤ dg n v p
      · rw [if_pos z] at x1'
        rw [if_neg (show ¬ I (dg n v p + 1) ≤ 1 from fun y => absurd ((I_le (b := 1) (by omega) (by omega)).mp y) (by omega)), ckB_t (I_in (by omega) (by omega)), I_cl (by omega), sA, h3 p hp, I_sub (dg_low z) (by omega), x1', bn1_s]
      · rw [if_neg z] at x1'
        rw [if_pos (show I (dg n v p + 1) ≤ 1 from (I_le (b := 1) (by omega) (by omega)).mpr (by omega)), x1', bn1_s]
    obtain ⟨s1, y1, y2, y3, y4, y5⟩ := hstart
    rw [y1]
    have hX : XS q n bl (9 ^ n) 0 [spr0 n v p].length 0 [spr0 n v p] (m + 1) s1 := by
      refine ⟨y2, ⟨(y4 10 (by omega)).trans ((sI q 10 (by omega)).trans h1), (y4 11 (by omega)).trans ((sI q 11 (by omega)).trans h2), fun c hc => by rw [(y3 (q + 7) (by omega) (by omega) (by omega) (by omega)).2.1, sA]; exact h3 c hc⟩, fun x hx => ?_, fun i _ hi => ?_⟩
      · rw [List.mem_singleton.mp hx]; exact spr0_lt hv
      · rw [List.length_singleton] at hi ⊢
        have : i = 0 := by omega
        subst this
        rw [if_pos (by omega)]
        exact y5
    obtain ⟨s2, z1, ⟨f2, j2, z2⟩, z3⟩ := x_rounds (q := q) hn hm hp hbl bl 0 0 [spr0 n v p] s1 (by omega) (by simp) hX
    have hlen := z2.1.len
    refine ⟨s2, m + 1, ?_, ⟨Nat.le_refl _, ⟨z2.2.1.1, z2.2.1.2.1, z2.2.1.2.2⟩, ?_, z2.1.2.1, fun r hr => (z2.1.2.2.2.2.2 r hr).2⟩, ⟨z2.1.1, z2.1.2.2.1⟩, ⟨z2.2.2.1, hlen⟩, fun c c1 c2 c3 c4 => ?_, fun k k1 k2 => ?_⟩
    · unfold fX3_leads_115
      rw [show iter (fun v : Int32 × St => bX3_leads_115 q (I p) v.1 v.2) FU (0, s1) = _ from z1.fu (by rw [FU_v]; omega), bn1_s]
      rfl
    · rw [(z3.1 2 (by omega) (by omega) (by omega) (by omega)).1, (y3 2 (by omega) (by omega) (by omega) (by omega)).1, sI 2 6 (by omega)]
      exact h4
    · refine (agc.tr ?_ (y3 c c1 c2 c3 c4)).tr (z3.1 c c1 c2 c3 c4)
      rw [← hs]
      exact (agc.pI c1).tr (agc.pI c1)
    · rw [z3.2 k k1, y4 k k1, sI q k (Or.inr ⟨k1, k2⟩)]
  · have hh' : held n tg v p = false := by simpa using hh
    rw [if_neg hh, if_pos (show I 0 = 0 from rfl), if_neg hh]
    refine ⟨_, m, rfl, ⟨Nat.le_succ m, ⟨by rw [gI_pI, if_neg (by omega)]; exact h1, by rw [gI_pI, if_neg (by omega)]; exact h2, h3⟩, by rw [gI_pI, if_neg (by omega)]; exact h4, by rw [gI_pI, if_neg (by omega)]; exact h5, h6⟩, ⟨by rw [gI_pI, if_pos ⟨rfl, rfl⟩]; rfl, fun i x hi => by simp at hi⟩, ⟨fun x hx => absurd hx (by simp), by simp⟩, fun c c1 _ _ _ => agc.pI c1, fun k k1 _ => by rw [gI_pI, if_neg (fun y => k1 y.2)]⟩
end ZX
