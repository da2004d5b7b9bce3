/-! the plain law: a run, both sides -/
set_option maxRecDepth 100000
def turnedOK (a3 : Int32) (n : Nat) : Prop := a3 = -1 ∨ ∃ i : Nat, a3 = I i ∧ i + 1 < n
theorem pick_both {a3 : Int32} {n p : Nat} (hT : turnedOK a3 n) (hp : p < n) (hn : n ≤ 16) : ∃ k, k < n ∧ (∀ (sh : Nat → Sh) (w0 a5 : Nat) (a7 : Int32) (σ : St), (if a3 < 0 then fX0_goes_cN_96 sh w0 a3 a5 (I p) a7 a5 σ else if I p = a3 then fX0_goes_cN_117 sh w0 a3 a5 (I p) a7 a5 (I p + 1) σ else fX0_goes_cN_96 sh w0 a3 a5 (I p) a7 a5 σ) = fX0_goes_cN_117 sh w0 a3 a5 (I p) a7 a5 (I k) σ) ∧ ∀ (t : Int32) (σ : St), (if a3 = -1 then fX6_goThrough_73 a3 t (I p) σ else if I p = a3 then fX6_goThrough_78 a3 t (I p) σ else if I p = a3 + 1 then fX6_goThrough_78 a3 t (I p) σ else fX6_goThrough_73 a3 t (I p) σ) = fX6_goThrough_95 a3 t (I p) (I k) σ := by
  rcases hT with rfl | ⟨i, rfl, hi⟩
  · refine ⟨p, hp, fun sh w0 a5 a7 σ => ?_, fun t σ => ?_⟩
    · unfold fX0_goes_cN_96 fX0_goes_cN_115
      rw [if_pos (by decide), if_pos (by decide)]
    · rw [if_pos rfl]
      rfl
  · have h0 : ¬ I i < 0 := by
      rw [lt_ti, I_toInt (by omega), Int32.toInt_zero]; omega
    have h1 : ¬ I i = -1 := fun q => by
      have q2 := congrArg Int32.toInt q
      rw [I_toInt (by omega), (by decide : (-1 : Int32).toInt = -1)] at q2
      omega
    have e1 : I i + 1 = I (i + 1) := I_add i 1
    by_cases q : p = i
    · subst q
      refine ⟨p + 1, hi, fun sh w0 a5 a7 σ => ?_, fun t σ => ?_⟩
      · rw [if_neg h0, if_pos rfl, e1]
      · rw [if_neg h1, if_pos rfl]
        unfold fX6_goThrough_78
        rw [if_pos rfl, e1]
    · have q1 : ¬ I p = I i := fun z => q ((I_eq (by omega) (by omega)).mp z)
      by_cases q2 : p = i + 1
      · refine ⟨i, by omega, fun sh w0 a5 a7 σ => ?_, fun t σ => ?_⟩
        · rw [if_neg h0, if_neg q1]
          unfold fX0_goes_cN_96
          rw [if_neg h0, e1, q2, if_pos rfl, show I (i + 1) - 1 = I i from I_sub (a := i + 1) (b := 1) (by omega) (by omega)]
        · rw [if_neg h1, if_neg q1, e1, q2, if_pos rfl]
          unfold fX6_goThrough_78
          rw [if_neg (by rw [← q2]; exact q1), show I (i + 1) - 1 = I i from I_sub (a := i + 1) (b := 1) (by omega) (by omega)]
      · have q3 : ¬ I p = I (i + 1) := fun z => q2 ((I_eq (by omega) (by omega)).mp z)
        refine ⟨p, hp, fun sh w0 a5 a7 σ => ?_, fun t σ => ?_⟩
        · rw [if_neg h0, if_neg q1]
          unfold fX0_goes_cN_96
          rw [if_neg h0, e1, if_neg q3]
          rfl
        · rw [if_neg h1, if_neg q1, e1, if_neg q3]
          rfl
theorem Rn.le {α β : Type} {f : α → Option (β ⊕ α)} {k k' : Nat} {a : α} {b : β} (h : Rn f k a b) (hk : k ≤ k') : Rn f k' a b := fun n hn => h n (by omega)
section GB
variable {q : Nat} {σ0 σm0 : St} {F : Nat → Prop} {sh : Nat → Sh}
theorem xg_stop {a3 : Int32} {l e n p c : Nat} {σ : St} (hL : LstC σ sh l e n) (hc : c ≤ 100) (hp : p ≤ 16) (h : n ≤ p ∨ 100 ≤ c) : bX0_goes_cN_60 sh q a3 l (I p) (I c) σ = some (.inl (I c, σ)) := by
  unfold bX0_goes_cN_60
  rw [ckS_t hL.1, hL.size, bn1_s]
  have hn := hL.2.2.2.2
  by_cases z : n ≤ p
  · rw [if_pos ((I_le (by omega) (by omega)).mpr z)]
  · rw [if_neg (fun y => z ((I_le (by omega) (by omega)).mp y)), if_pos (show (100 : Int32) ≤ I c from (I_le (a := 100) (by omega) (by omega)).mpr (by omega))]
theorem mg_stop {a3 : Int32} {t n p c : Nat} {σ : St} (ht : t ≤ 7060) (hn : n ≤ 16) (hN : gA σ 2 t = I n) (hC : gI σ 0 41 = I c) (hc : c ≤ 100) (hp : p ≤ 16) (h : n ≤ p ∨ 100 ≤ c ∨ ¬ gI σ 0 35 = -1) : bX6_goThrough_16 a3 (I t) (I p) σ = some (.inl σ) := by
  unfold bX6_goThrough_16
  rw [ckB_t (I_in (by omega) (by omega)), I_cl (by omega), hN, hC]
  by_cases z : n ≤ p
  · rw [if_pos ((I_le (by omega) (by omega)).mpr z)]
  · rw [if_neg (fun y => z ((I_le (by omega) (by omega)).mp y))]
    by_cases z2 : 100 ≤ c
    · rw [if_pos (show (100 : Int32) ≤ I c from (I_le (a := 100) (by omega) (by omega)).mpr (by omega))]
    · rw [if_neg (show ¬ (100 : Int32) ≤ I c from fun y => z2 ((I_le (a := 100) (by omega) (by omega)).mp y)), if_neg (by
        rcases h with h | h | h
        · exact absurd h z
        · exact absurd h z2
        · exact h)]
theorem stepT {s : Nat} (hs : s ≤ 5) : (stepSh s).1 = 0 ∧ (stepSh s).2.2.1 = 0 ∧ (stepSh s).2.1 ∈ [9, 15, 16, 17, 18, 19] := by
  rcases (show s = 0 ∨ s = 1 ∨ s = 2 ∨ s = 3 ∨ s = 4 ∨ s = 5 by omega) with rfl | rfl | rfl | rfl | rfl | rfl <;> decide
theorem goes_loop {a3 : Int32} {t l n : Nat} (hT : turnedOK a3 n) (ht : t ≤ 7060) (hF : ∀ d, F d → 54 ≤ d) (hR : RcpC F σ0 sh (fun i => gA σm0 2 (t + i)) l) (hN : gA σm0 2 t = I n) (hn : n ≤ 16) : ∀ (m c p : Nat) (σ σm : St), c + m = 100 → p ≤ 16 → LR q σ0 σm0 σ σm c → gI σm 0 35 = -1 → ∃ c' σ' σm', Rn (fun v : Int32 × Int32 × St => bX0_goes_cN_60 sh q a3 l v.1 v.2.1 v.2.2) (m + 2) (I p, I c, σ) (I c', σ') ∧ Rn (fun v : Int32 × St => bX6_goThrough_16 a3 (I t) v.1 v.2) (m + 2) (I p, σm) σm' ∧ LR q σ0 σm0 σ' σm' c' ∧ c' ≤ 100 := by
  intro m
  induction m with
  | zero =>
    intro c p σ σm hc hp h h35
    obtain ⟨e, n', r1, r2, r3, r4, r5, r6, r7⟩ := h.rcp hF hR
    have hN' : gA σm 2 t = I n := by rw [(h.2.2.2.1 2 (by omega) (by omega) (by omega) (by omega) (by omega)).2.1]; exact hN
    have hx := xg_stop (q := q) (a3 := a3) r6 (show c ≤ 100 by omega) hp (Or.inr (show 100 ≤ c by omega))
    have hm := mg_stop (a3 := a3) ht hn hN' h.2.2.2.2.2 (show c ≤ 100 by omega) hp (Or.inr (Or.inl (show 100 ≤ c by omega)))
    exact ⟨c, σ, σm, (Rn.stop (f := fun v : Int32 × Int32 × St => bX0_goes_cN_60 sh q a3 l v.1 v.2.1 v.2.2) (a := (I p, I c, σ)) hx).le (by omega), (Rn.stop (f := fun v : Int32 × St => bX6_goThrough_16 a3 (I t) v.1 v.2) (a := (I p, σm)) hm).le (by omega), h, by omega⟩
  | succ m ih =>
    intro c p σ σm hc hp h h35
    obtain ⟨e, n', r1, r2, r3, r4, r5, r6, r7⟩ := h.rcp hF hR
    have hN' : gA σm 2 t = I n := by rw [(h.2.2.2.1 2 (by omega) (by omega) (by omega) (by omega) (by omega)).2.1]; exact hN
    have en : n' = n := by
      have r5' : gA σm 2 (t + 0) = I n' := r5
      rw [Nat.add_zero, hN'] at r5'
      exact ((I_eq (by omega) (by omega)).mp r5').symm
    subst en
    by_cases z : n' ≤ p
    · have hx := xg_stop (q := q) (a3 := a3) r6 (show c ≤ 100 by omega) hp (Or.inl z)
      have hm := mg_stop (a3 := a3) ht hn hN' h.2.2.2.2.2 (show c ≤ 100 by omega) hp (Or.inl z)
      exact ⟨c, σ, σm, (Rn.stop (f := fun v : Int32 × Int32 × St => bX0_goes_cN_60 sh q a3 l v.1 v.2.1 v.2.2) (a := (I p, I c, σ)) hx).le (by omega), (Rn.stop (f := fun v : Int32 × St => bX6_goThrough_16 a3 (I t) v.1 v.2) (a := (I p, σm)) hm).le (by omega), h, by omega⟩
    obtain ⟨k, hk, px, pm⟩ := pick_both hT (show p < n' by omega) hn
    obtain ⟨a, ha, hst⟩ := r7 k hk
    obtain ⟨p', pm', σ', σm', x1, y1, w1, hor⟩ := turn_both h ht (show k < 16 by omega) (show p < 16 by omega) (show c < 1000 by omega) hst h35 a3
    have hX : bX0_goes_cN_60 sh q a3 l (I p) (I c) σ = some (.inr (p', I (c + 1), σ')) := by
      unfold bX0_goes_cN_60
      rw [ckS_t r6.1, r6.size, bn1_s, if_neg (fun y => z ((I_le (by omega) (by omega)).mp y)), if_neg (show ¬ (100 : Int32) ≤ I c from fun y => absurd ((I_le (a := 100) (by omega) (by omega)).mp y) (by omega)), px]
      unfold fX0_goes_cN_117
      obtain ⟨-, s, hs5, hsh, -⟩ := hst
      rw [ckS_t r6.1, r6.get hk ha, bn1_s, ckT_t (by rw [hsh]; exact stepT hs5)]
      exact x1
    have hM : bX6_goThrough_16 a3 (I t) (I p) σm = some (.inr (pm', σm')) := by
      unfold bX6_goThrough_16
      rw [ckB_t (I_in (by omega) (by omega)), I_cl (by omega), hN', h.2.2.2.2.2, if_neg (fun y => z ((I_le (by omega) (by omega)).mp y)), if_neg (show ¬ (100 : Int32) ≤ I c from fun y => absurd ((I_le (a := 100) (by omega) (by omega)).mp y) (by omega)), if_pos h35, letB_t, pm, show I c + 1 = I (c + 1) from I_add c 1]
      exact y1
    rcases hor with ⟨rfl, ⟨p'', hp'', rfl⟩, h35'⟩ | ⟨rfl, h35'⟩
    · obtain ⟨c', σ1, m1, i1, i2, i3, i4⟩ := ih (c + 1) p'' σ' σm' (by omega) hp'' w1 h35'
      exact ⟨c', σ1, m1, (Rn.step (f := fun v : Int32 × Int32 × St => bX0_goes_cN_60 sh q a3 l v.1 v.2.1 v.2.2) (a := (I p, I c, σ)) hX i1).le (by omega), (Rn.step (f := fun v : Int32 × St => bX6_goThrough_16 a3 (I t) v.1 v.2) (a := (I p, σm)) hM i2).le (by omega), i3, i4⟩
    · obtain ⟨e2, n2, g1, g2, g3, g4, g5, g6, g7⟩ := w1.rcp hF hR
      have hN2 : gA σm' 2 t = I n' := by rw [(w1.2.2.2.1 2 (by omega) (by omega) (by omega) (by omega) (by omega)).2.1]; exact hN
      have hx := xg_stop (q := q) (a3 := a3) (p := 16) (c := c + 1) g6 (by omega) (by omega) (Or.inl g3)
      have e16 : ∃ p2, p2 ≤ 16 ∧ pm' = I p2 ∨ True := ⟨0, Or.inr trivial⟩
      have hm : bX6_goThrough_16 a3 (I t) pm' σm' = some (.inl σm') := by
        unfold bX6_goThrough_16
        rw [ckB_t (I_in (by omega) (by omega)), I_cl (by omega), hN2, w1.2.2.2.2.2, if_neg h35']
        by_cases y1 : I n' ≤ pm'
        · rw [if_pos y1]
        · rw [if_neg y1]
          by_cases y2 : (100 : Int32) ≤ I (c + 1)
          · rw [if_pos y2]
          · rw [if_neg y2]
      exact ⟨c + 1, σ', σm', (Rn.step (f := fun v : Int32 × Int32 × St => bX0_goes_cN_60 sh q a3 l v.1 v.2.1 v.2.2) (a := (I p, I c, σ)) hX (Rn.stop (a := ((16 : Int32), I (c + 1), σ')) hx)).le (by omega), (Rn.step (f := fun v : Int32 × St => bX6_goThrough_16 a3 (I t) v.1 v.2) (a := (I p, σm)) hM (Rn.stop (a := (pm', σm')) hm)).le (by omega), w1, by omega⟩
theorem goes_both {σ σm : St} {a3 : Int32} {er N i l n : Nat} (hq : isW q) (hC : cfgR (gI σ 2 5) (gI σ 2 6) (gA σ 3) (gA σ 4) (gA σ 5) (gA σm 2)) (hB : cfgB (gA σm 2)) (hL : LstC σ sh 6 er N) (hN8 : N ≤ 8) (hi : i < N) (hr : gR σ er i = some l) (hF : ∀ d, F d → 54 ≤ d) (hR : RcpC F σ sh (fun k => gA σm 2 (60 + 1000 * i + k)) l) (hn : gA σm 2 (60 + 1000 * i) = I n) (hn16 : n ≤ 16) (hT : turnedOK a3 n) {x : Option Nat} (hH : HdR q (pR σ q 22 x) σm) :
    ∃ c σ1 s0 σ' σm', fX2_begins_c3_c5 q (gI σ 2 5) (gI σ 2 6) σ = some σ1 ∧ s0 = pR σ1 q 22 x ∧ fJ2_get sh 6 (I i) σ = some l ∧ sh l = xD24 ∧ fX0_goes_cN_60 sh q a3 l 0 0 s0 = some (I c, σ') ∧ fX6_goThrough (I i) a3 σm = some σm' ∧ LR q (pR σ q 22 x) σm σ' σm' c ∧ c ≤ 100 := by
  obtain ⟨σ1, m1, b1, b2, b3, b4⟩ := lr_begin hq hC hB hH
  have hR0 : RcpC F (pR σ q 22 x) sh (fun k => gA σm 2 (60 + 1000 * i + k)) l := hR.fr (fun d hd => agc.pR (by have := hF d hd; unfold isW at hq; omega)) (fun _ _ => rfl) (fun _ _ => rfl)
  obtain ⟨c', σ', σm', i1, i2, i3, i4⟩ := goes_loop (q := q) (sh := sh) hT (show 60 + 1000 * i ≤ 7060 by omega) hF hR0 hn hn16 100 0 0 (pR σ1 q 22 x) m1 rfl (by omega) b3 b4
  refine ⟨c', σ1, _, σ', σm', b1, rfl, hL.get hi hr, ?_, ?_, ?_, i3, i4⟩
  · obtain ⟨e, n', r1, r2, r3, r4, r5, r6, r7⟩ := hR
    exact r6.1
  · unfold fX0_goes_cN_60
    rw [show iter (fun v : Int32 × Int32 × St => bX0_goes_cN_60 sh q a3 l v.1 v.2.1 v.2.2) FU (0, 0, pR σ1 q 22 x) = _ from i1.fu (by rw [FU_v]; omega), bn1_s]
    rfl
  · unfold fX6_goThrough fX6_goThrough_16
    rw [b2, bn1_s, letB_t, show (60 : Int32) + 1000 * I i = I (60 + 1000 * i) from by
      rw [show (1000 : Int32) * I i = I (1000 * i) from I_mul 1000 i]
      exact I_add 60 _]
    rw [show iter (fun v : Int32 × St => bX6_goThrough_16 a3 (I (60 + 1000 * i)) v.1 v.2) FU (0, m1) = _ from i2.fu (by rw [FU_v]; omega), bn1_s]
    rfl
end GB
theorem c48_60 : @fX0_goes_c48_60 = @fX0_goes_cN_60 := rfl
/-- without a hand -/
theorem goesN_both {q : Nat} {F : Nat → Prop} {sh : Nat → Sh} {σ σm : St} {a3 : Int32} {er N i l n : Nat} (hq : isW q) (hC : cfgR (gI σ 2 5) (gI σ 2 6) (gA σ 3) (gA σ 4) (gA σ 5) (gA σm 2)) (hB : cfgB (gA σm 2)) (hL : LstC σ sh 6 er N) (hN8 : N ≤ 8) (hi : i < N) (hr : gR σ er i = some l) (hF : ∀ d, F d → 54 ≤ d) (hR : RcpC F σ sh (fun k => gA σm 2 (60 + 1000 * i + k)) l) (hn : gA σm 2 (60 + 1000 * i) = I n) (hn16 : n ≤ 16) (hT : turnedOK a3 n) (hH : gI σm 0 42 = -1) :
    ∃ c σ' σm', fX0_goes_cN sh q (I i) a3 σ = some (I c, σ') ∧ fX6_goThrough (I i) a3 σm = some σm' ∧ LR q (pR σ q 22 none) σm σ' σm' c ∧ c ≤ 100 := by
  obtain ⟨c, σ1, s0, σ', σm', g1, g2, g3, g4, g5, g6, g7, g8⟩ := goes_both hq hC hB hL hN8 hi hr hF hR hn hn16 hT (x := none) (Or.inl ⟨by rw [gR_pR, if_pos ⟨rfl, rfl⟩], hH⟩)
  refine ⟨c, σ', σm', ?_, g6, g7, g8⟩
  unfold fX0_goes_cN
  rw [g3, bn1_s, ckS_t g4, g1, bn1_s, letB_t, ← g2, g5]
/-- with the hand -/
theorem goesH_both {q : Nat} {F : Nat → Prop} {sh : Nat → Sh} {σ σm : St} {a3 : Int32} {er N i l n : Nat} (hq : isW q) (hC : cfgR (gI σ 2 5) (gI σ 2 6) (gA σ 3) (gA σ 4) (gA σ 5) (gA σm 2)) (hB : cfgB (gA σm 2)) (hL : LstC σ sh 6 er N) (hN8 : N ≤ 8) (hi : i < N) (hr : gR σ er i = some l) (hF : ∀ d, F d → 54 ≤ d) (hR : RcpC F σ sh (fun k => gA σm 2 (60 + 1000 * i + k)) l) (hn : gA σm 2 (60 + 1000 * i) = I n) (hn16 : n ≤ 16) (hT : turnedOK a3 n) (hH : HdR q (pR σ q 22 (some 48)) σm) :
    ∃ c σ' σm', fX0_goes_c48 sh q (I i) a3 σ = some (I c, σ') ∧ fX6_goThrough (I i) a3 σm = some σm' ∧ LR q (pR σ q 22 (some 48)) σm σ' σm' c ∧ c ≤ 100 := by
  obtain ⟨c, σ1, s0, σ', σm', g1, g2, g3, g4, g5, g6, g7, g8⟩ := goes_both hq hC hB hL hN8 hi hr hF hR hn hn16 hT hH
  refine ⟨c, σ', σm', ?_, g6, g7, g8⟩
  unfold fX0_goes_c48
  rw [g3, bn1_s, ckS_t g4, g1, bn1_s, letB_t, ← g2, c48_60, g5]
