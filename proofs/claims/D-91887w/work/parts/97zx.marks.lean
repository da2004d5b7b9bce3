/-! the plain law: x marks what leads to the shape -/
set_option maxRecDepth 100000
/-- cells that a pass touches: c and those of a search -/
def FrC (q c : Nat) (σ σ' : St) : Prop := (∀ d, d ≠ q → d ≠ c → d ≠ q + 4 → d ≠ q + 5 → d ≠ q + 6 → agc σ σ' d) ∧ ∀ k, k ≠ 12 → k ≠ 13 → gI σ' q k = gI σ q k
theorem FrC.rf {q c : Nat} {σ : St} : FrC q c σ σ := ⟨fun _ _ _ _ _ _ => agc.rf, fun _ _ _ => rfl⟩
theorem FrC.tr {q c : Nat} {a b d : St} (h : FrC q c a b) (h' : FrC q c b d) : FrC q c a d := ⟨fun e e1 e2 e3 e4 e5 => (h.1 e e1 e2 e3 e4 e5).tr (h'.1 e e1 e2 e3 e4 e5), fun k h1 h2 => (h'.2 k h1 h2).trans (h.2 k h1 h2)⟩
theorem FrQ.C {q c : Nat} {a b : St} (h : FrQ q a b) : FrC q c a b := ⟨fun d d1 _ d3 d4 d5 => h.1 d d1 d3 d4 d5, h.2⟩
theorem FrC.pA {q c k : Nat} {x : Int32} {σ : St} (hc : c ≠ q) : FrC q c σ (pA σ c k x) := ⟨fun _ _ d2 _ _ _ => agc.pA d2, fun _ _ _ => rfl⟩
section XM
variable {q n tg bl m h : Nat} {G Lv O : Nat → Nat → Prop} {σ : St}
theorem PQ.frC {c : Nat} {σ' : St} (hc : c = q + 1 ∨ c = q + 2 ∨ c = q + 3 ∨ c = q + 9 ∨ c = q + 10) (hq : isP q) (hQ : PQ q n tg bl m σ) (hA : ∀ d, d ≠ c → gA σ' d = gA σ d) (hI : ∀ d k, gI σ' d k = gI σ d k) : PQ q n tg bl m σ' := by
  have hq' : q = 24 ∨ q = 35 := hq
  exact hQ.keep (fun k _ => hI q k) (hA _ (by omega)) (hI 2 6) (hA _ (by omega))
theorem x_is2 (hB : BA (q + 2) G σ) {v i : Nat} (hv : v < 59049) (hi : i < 7) : (G i v ∧ fX3_is_cq2 q (I v) (I i) σ = some 1) ∨ (¬ G i v ∧ fX3_is_cq2 q (I v) (I i) σ = some 0) := by
  unfold fX3_is_cq2
  rw [ckB_t (I_in (by omega) (by omega)), I_cl (by omega)]
  rcases hB.bit hv hi with ⟨h1, h2⟩ | ⟨h1, h2⟩
  · exact Or.inl ⟨h1, by rw [h2, if_pos rfl]⟩
  · exact Or.inr ⟨h1, by rw [h2, if_neg (by decide)]⟩
theorem x_is3 (hB : BA (q + 3) O σ) {v i : Nat} (hv : v < 59049) (hi : i < 7) : (O i v ∧ fX3_is_cq3 q (I v) (I i) σ = some 1) ∨ (¬ O i v ∧ fX3_is_cq3 q (I v) (I i) σ = some 0) := by
  unfold fX3_is_cq3
  rw [ckB_t (I_in (by omega) (by omega)), I_cl (by omega)]
  rcases hB.bit hv hi with ⟨h1, h2⟩ | ⟨h1, h2⟩
  · exact Or.inl ⟨h1, by rw [h2, if_pos rfl]⟩
  · exact Or.inr ⟨h1, by rw [h2, if_neg (by decide)]⟩
/-- a bit of a byte array is set -/
theorem BA.setB {c i v : Nat} (hB : BA c G σ) (hi : i < 7) (hv : v < 59049) : BA c (fun j w => G j w ∨ (j = i ∧ w = v)) (pA σ c v (vp_nar .byte (((gA σ c v) ||| ((1 <<< (I i &&& 31)).toInt8.toInt32)).toInt8.toInt32))) := by
  refine hB.set (v := v) hi (fun t ht e => ?_) (fun w => by rw [gA_upf])
  rw [e, vp_nar_byte]
  exact bset_b t ht i hi
theorem x_leadsTo (hq : isP q) (hn : n ≤ 5) (htg : tg < 1024) (hbl : bl < 100) (hm : m + 1 < 2147483648) (hQ : PQ q n tg bl m σ) (hG : BA (q + 2) G σ) {v p : Nat} (hv : v < 9 ^ n) (hp : p < n) (hh : h < 7) : ∃ b σ' m', fX3_leadsTo_cq2 q (I v) (I p) (I h) σ = some (b, σ') ∧ ((b = 1 ∧ ∃ w, w ∈ spr n tg bl v p ∧ G h w) ∨ (b = 0 ∧ ¬ ∃ w, w ∈ spr n tg bl v p ∧ G h w)) ∧ m' ≤ m + 1 ∧ PQ q n tg bl m' σ' ∧ FrQ q σ σ' := by
  have hq' : q = 24 ∨ q = 35 := hq
  obtain ⟨s, m', x1, ⟨x2, x3⟩, x4, ⟨x5, x6⟩, x7⟩ := x_leads (q := q) hn hp hv htg hbl (by omega) hm hQ
  have hG' : BA (q + 2) G s := hG.cg (fun w => (x7.1 (q + 2) (by omega) (by omega) (by omega) (by omega)).2.1 w) (fun _ _ _ _ => Iff.rfl)
  have hp9 := pow9_le hn (Nat.le_refl n)
  have key := Rn.inv (f := fun a => bX3_leadsTo_cq2_9 q (I h) a s) (I := fun r a => ∃ k, k + r = (spr n tg bl v p).length ∧ a = I k ∧ ∀ i w, i < k → (spr n tg bl v p)[i]? = some w → ¬ G h w) (P := fun e => (e = .inl () ∧ ∃ w, w ∈ spr n tg bl v p ∧ G h w) ∨ (e = .inr () ∧ ¬ ∃ w, w ∈ spr n tg bl v p ∧ G h w)) (fun r a hI => by
    obtain ⟨k, e1, rfl, e2⟩ := hI
    show (∃ b, bX3_leadsTo_cq2_9 q (I h) (I k) s = _ ∧ _) ∨ ∃ k' a', _ ∧ bX3_leadsTo_cq2_9 q (I h) (I k) s = _ ∧ _
    unfold bX3_leadsTo_cq2_9
    rw [x4.1]
    by_cases z : (spr n tg bl v p).length ≤ k
    · left
      rw [if_pos ((I_le (by omega) (by omega)).mpr z)]
      refine ⟨_, rfl, Or.inr ⟨rfl, fun ⟨w, w1, w2⟩ => ?_⟩⟩
      obtain ⟨i, hi⟩ := List.getElem?_of_mem w1
      have := (List.getElem?_eq_some_iff.mp hi).1
      exact e2 i w (by omega) hi w2
    · have hk : k < (spr n tg bl v p).length := by omega
      have hg := List.getElem?_eq_getElem hk
      have hw := x5 _ (List.getElem_mem hk)
      rw [if_neg (fun y => z ((I_le (by omega) (by omega)).mp y)), ckB_t (I_in (by omega) (by omega)), I_cl (by omega), x4.2 k _ hg]
      rcases x_is2 hG' (show (spr n tg bl v p)[k] < 59049 by omega) hh with ⟨w1, w2⟩ | ⟨w1, w2⟩
      · left
        rw [w2, bn1_s, if_neg (by decide)]
        exact ⟨_, rfl, Or.inl ⟨rfl, _, List.getElem_mem hk, w1⟩⟩
      · right
        rw [w2, bn1_s, if_pos rfl, letB_t, show I k + 1 = I (k + 1) from I_add k 1]
        refine ⟨r - 1, _, by omega, rfl, k + 1, by omega, rfl, fun i w hi hiw => ?_⟩
        by_cases y : i = k
        · subst y
          rw [hg] at hiw
          cases hiw
          exact w1
        · exact e2 i w (by omega) hiw) (spr n tg bl v p).length (0 : Int32) ⟨0, by omega, rfl, fun i w hi => absurd hi (by omega)⟩
  obtain ⟨e, k1, k2⟩ := key
  have hdef : fX3_leadsTo_cq2 q (I v) (I p) (I h) σ = xX3_leadsTo_cq2_9 q (I h) s e := by
    unfold fX3_leadsTo_cq2
    rw [x1, bn1_s]
    unfold fX3_leadsTo_cq2_9
    rw [k1.fu (by rw [FU_v]; omega), bn1_s]
  rw [hdef]
  rcases k2 with ⟨rfl, k3⟩ | ⟨rfl, k3⟩
  · exact ⟨1, s, m', rfl, Or.inl ⟨rfl, k3⟩, x2, x3, x7⟩
  · exact ⟨0, s, m', rfl, Or.inr ⟨rfl, k3⟩, x2, x3, x7⟩
theorem x_marks_row (hq : isP q) (hn : n ≤ 5) (htg : tg < 1024) (hbl : bl < 100) (hm : m + 6 < 2147483648) (hQ : PQ q n tg bl m σ) (hL : BA (q + 1) Lv σ) (hG : BA (q + 2) G σ) (hh : h < 6) (hlt : ∀ v, Lv h v → v < 9 ^ n) {r : Nat} (hr : r < 59049) : ∃ σ' m', fX3_marks_63 q (I h) (I r) 0 0 σ = some (.inr (I (r + 1), σ')) ∧ m' ≤ m + 5 ∧ PQ q n tg bl m' σ' ∧ BA (q + 1) Lv σ' ∧ BA (q + 2) (fun j v => G j v ∨ (j = h ∧ v = r ∧ Lv h r ∧ ∃ p w, p < n ∧ w ∈ spr n tg bl r p ∧ G (h + 1) w)) σ' ∧ FrC q (q + 2) σ σ' := by
  have hq' : q = 24 ∨ q = 35 := hq
  -- the loop over cells
  have key := Rn.inv (f := fun w : Int32 × Int32 × St => bX3_marks_63 q (I h) (I r) w.1 w.2.1 w.2.2) (I := fun d st => ∃ p b s m', p + d = n ∧ st = (b, I p, s) ∧ m' ≤ m + p ∧ PQ q n tg bl m' s ∧ FrQ q σ s ∧ ((b = 0 ∧ ∀ p', p' < p → ¬ (Lv h r ∧ ∃ w, w ∈ spr n tg bl r p' ∧ G (h + 1) w)) ∨ (b = 1 ∧ Lv h r ∧ ∃ p' w, p' < n ∧ w ∈ spr n tg bl r p' ∧ G (h + 1) w))) (P := fun e => ∃ m', m' ≤ m + 5 ∧ PQ q n tg bl m' e.2 ∧ FrQ q σ e.2 ∧ ((e.1 = 0 ∧ ¬ (Lv h r ∧ ∃ p w, p < n ∧ w ∈ spr n tg bl r p ∧ G (h + 1) w)) ∨ (e.1 = 1 ∧ Lv h r ∧ ∃ p' w, p' < n ∧ w ∈ spr n tg bl r p' ∧ G (h + 1) w))) (fun d st hI => by
    obtain ⟨p, b, s, m', e1, rfl, e2, e3, e4, e5⟩ := hI
    show (∃ b', bX3_marks_63 q (I h) (I r) b (I p) s = _ ∧ _) ∨ ∃ k' a', _ ∧ bX3_marks_63 q (I h) (I r) b (I p) s = _ ∧ _
    unfold bX3_marks_63
    rw [e3.1.1]
    have hL' : BA (q + 1) Lv s := hL.cg (fun w => (e4.1 (q + 1) (by omega) (by omega) (by omega) (by omega)).2.1 w) (fun _ _ _ _ => Iff.rfl)
    have hG' : BA (q + 2) G s := hG.cg (fun w => (e4.1 (q + 2) (by omega) (by omega) (by omega) (by omega)).2.1 w) (fun _ _ _ _ => Iff.rfl)
    by_cases z : n ≤ p
    · left
      rw [if_pos ((I_le (by omega) (by omega)).mpr z)]
      refine ⟨_, rfl, m', by omega, e3, e4, ?_⟩
      rcases e5 with ⟨y1, y2⟩ | y
      · exact Or.inl ⟨y1, fun ⟨t1, p', w, t2, t3, t4⟩ => y2 p' (by omega) ⟨t1, w, t3, t4⟩⟩
      · exact Or.inr y
    · rw [if_neg (fun y => z ((I_le (by omega) (by omega)).mp y))]
      rcases e5 with ⟨rfl, y2⟩ | ⟨rfl, y⟩
      · rw [if_pos rfl]
        rcases x_is1 hL' hr (show h < 7 by omega) with ⟨w1, w2⟩ | ⟨w1, w2⟩
        · right
          obtain ⟨b', s', m2, z1, z2, z3, z4, z5⟩ := x_leadsTo (h := h + 1) hq hn htg hbl (show m' + 1 < 2147483648 by omega) e3 hG' (hlt r w1) (show p < n by omega) (by omega)
          rw [w2, bn1_s, if_neg (by decide), show I h + 1 = I (h + 1) from I_add h 1, z1, bn2_s, letB_t, show I p + 1 = I (p + 1) from I_add p 1]
          refine ⟨d - 1, _, by omega, rfl, p + 1, b', s', m2, by omega, rfl, by omega, z4, e4.tr z5, ?_⟩
          rcases z2 with ⟨rfl, z2⟩ | ⟨rfl, z2⟩
          · obtain ⟨w, t1, t2⟩ := z2
            exact Or.inr ⟨rfl, w1, p, w, by omega, t1, t2⟩
          · refine Or.inl ⟨rfl, fun p' hp' t => ?_⟩
            by_cases u : p' = p
            · subst u; exact z2 t.2
            · exact y2 p' (by omega) t
        · left
          rw [w2, bn1_s, if_pos rfl]
          exact ⟨_, rfl, m', by omega, e3, e4, Or.inl ⟨rfl, fun t => w1 t.1⟩⟩
      · left
        rw [if_neg (by decide)]
        exact ⟨_, rfl, m', by omega, e3, e4, Or.inr ⟨rfl, y⟩⟩) n (0, 0, σ) ⟨0, 0, σ, m, by omega, rfl, by omega, hQ, FrQ.rf, Or.inl ⟨rfl, fun p' hp' => absurd hp' (by omega)⟩⟩
  obtain ⟨⟨b, s⟩, k1, m', k2, k3, k4, k5⟩ := key
  have k3 : PQ q n tg bl m' s := k3
  have k4 : FrQ q σ s := k4
  have hL' : BA (q + 1) Lv s := hL.cg (fun w => (k4.1 (q + 1) (by omega) (by omega) (by omega) (by omega)).2.1 w) (fun _ _ _ _ => Iff.rfl)
  have hG' : BA (q + 2) G s := hG.cg (fun w => (k4.1 (q + 2) (by omega) (by omega) (by omega) (by omega)).2.1 w) (fun _ _ _ _ => Iff.rfl)
  have hdef : fX3_marks_63 q (I h) (I r) 0 0 σ = fX3_marks_112 q (I h) (I r) b s := by
    unfold fX3_marks_63
    rw [k1.fu (by rw [FU_v]; omega), bn1_s]
    rfl
  rw [hdef]
  unfold fX3_marks_112
  rcases k5 with ⟨k5, k6⟩ | ⟨k5, k6⟩
  · have k5 : b = 0 := k5
    rw [if_pos k5, letB_t, show I r + 1 = I (r + 1) from I_add r 1]
    exact ⟨s, m', rfl, k2, k3, hL', hG'.cg (fun _ => rfl) (fun i v _ _ => ⟨Or.inl, fun y => y.elim id (fun t => absurd t.2.2 k6)⟩), k4.C⟩
  · have k5 : b = 1 := k5
    rw [if_neg (by rw [k5]; decide), ckB_t (I_in (by omega) (by omega)), ckB_t (I_in (by omega) (by omega)), letB_t, letB_t, I_cl (by omega), show I r + 1 = I (r + 1) from I_add r 1]
    refine ⟨_, m', rfl, k2, k3.frC (c := q + 2) (by omega) hq (fun d hd => gA_pA_n hd) (fun _ _ => rfl), hL'.cg (fun w => by rw [gA_pA_n (by omega)]) (fun _ _ _ _ => Iff.rfl), (hG'.setB (show h < 7 by omega) hr).cg (fun _ => rfl) (fun i v _ _ => ⟨fun y => y.imp id (fun t => ⟨t.1, t.2, k6⟩), fun y => y.imp id (fun t => ⟨t.1, t.2.1⟩)⟩), k4.C.tr (FrC.pA (by omega))⟩
theorem x_marks_h (hq : isP q) (hn : n ≤ 5) (htg : tg < 1024) (hbl : bl < 100) (hm : m + 300000 < 2147483648) (hQ : PQ q n tg bl m σ) (hL : BA (q + 1) Lv σ) (hG : BA (q + 2) G σ) (hh : h < 6) (hlt : ∀ v, Lv h v → v < 9 ^ n) : ∃ σ' m', fX3_marks_51 q (I h) 0 σ = some (.inr (I h - 1, σ')) ∧ m' ≤ m + 295245 ∧ PQ q n tg bl m' σ' ∧ BA (q + 1) Lv σ' ∧ BA (q + 2) (fun j v => G j v ∨ (j = h ∧ Lv h v ∧ ∃ p w, p < n ∧ w ∈ spr n tg bl v p ∧ G (h + 1) w)) σ' ∧ FrC q (q + 2) σ σ' := by
  have hp9 := pow9_le hn (Nat.le_refl n)
  have key := Rn.up (f := fun v : Int32 × St => bX3_marks_51 q (I h) v.1 v.2) (I := fun r st => st.1 = I r ∧ (∃ m', m' ≤ m + 5 * r ∧ PQ q n tg bl m' st.2) ∧ BA (q + 1) Lv st.2 ∧ BA (q + 2) (fun j v => G j v ∨ (j = h ∧ v < r ∧ Lv h v ∧ ∃ p w, p < n ∧ w ∈ spr n tg bl v p ∧ G (h + 1) w)) st.2 ∧ FrC q (q + 2) σ st.2) (P := fun σ' => (∃ m', m' ≤ m + 295245 ∧ PQ q n tg bl m' σ') ∧ BA (q + 1) Lv σ' ∧ BA (q + 2) (fun j v => G j v ∨ (j = h ∧ Lv h v ∧ ∃ p w, p < n ∧ w ∈ spr n tg bl v p ∧ G (h + 1) w)) σ' ∧ FrC q (q + 2) σ σ') 59049 (fun r st hr hI => ?_) (fun st hI => ?_) (0, σ) ⟨rfl, ⟨m, Nat.le_refl _, hQ⟩, hL, hG.cg (fun _ => rfl) (fun i v _ _ => ⟨Or.inl, fun y => y.elim id (fun t => absurd t.2.1 (by omega))⟩), FrC.rf⟩ (by rw [FU_v]; omega)
  · obtain ⟨σ', k1, ⟨m', k2, k3⟩, k4, k5, k6⟩ := key
    refine ⟨σ', m', ?_, k2, k3, k4, k5, k6⟩
    unfold fX3_marks_51
    rw [k1, bn1_s]
    unfold xX3_marks_51
    rw [letB_t, I_pred h (by omega)]
  · obtain ⟨i, s⟩ := st
    obtain ⟨e1, ⟨m1, hm1, e2⟩, e3, e4, e5⟩ := hI
    have e1 : i = I r := e1
    subst e1
    obtain ⟨s', m2, x1, x2, x3, x4, x5, x6⟩ := x_marks_row hq hn htg hbl (show m1 + 6 < 2147483648 by omega) e2 e3 e4 hh hlt hr
    refine ⟨(I (r + 1), s'), ?_, rfl, ⟨m2, by omega, x3⟩, x4, x5.cg (fun _ => rfl) (fun i v _ _ => ?_), e5.tr x6⟩
    · show bX3_marks_51 q (I h) (I r) s = _
      unfold bX3_marks_51
      rw [if_neg (show ¬ (59049 : Int32) ≤ I r from fun y => absurd ((I_le (a := 59049) (by omega) (by omega)).mp y) (by omega)), x1]
    · have simp1 : ∀ w, (G (h + 1) w ∨ (h + 1 = h ∧ w < r ∧ Lv h w ∧ ∃ p w', p < n ∧ w' ∈ spr n tg bl w p ∧ G (h + 1) w')) ↔ G (h + 1) w := fun w => ⟨fun y => y.elim id (fun t => by omega), Or.inl⟩
      constructor
      · rintro ((y | ⟨y1, y2, y3⟩) | ⟨y1, y2, y3, p, w, y4, y5, y6⟩)
        · exact Or.inl y
        · exact Or.inr ⟨y1, by omega, y3⟩
        · exact Or.inr ⟨y1, by omega, by rw [y2]; exact y3, p, w, y4, by rw [y2]; exact y5, (simp1 w).mp y6⟩
      · rintro (y | ⟨y1, y2, y3, p, w, y4, y5, y6⟩)
        · exact Or.inl (Or.inl y)
        · by_cases u : v = r
          · subst u
            exact Or.inr ⟨y1, rfl, y3, p, w, y4, y5, (simp1 w).mpr y6⟩
          · exact Or.inl (Or.inr ⟨y1, by omega, y3, p, w, y4, y5, y6⟩)
  · obtain ⟨i, s⟩ := st
    obtain ⟨e1, ⟨m1, hm1, e2⟩, e3, e4, e5⟩ := hI
    have e1 : i = I 59049 := e1
    subst e1
    refine ⟨s, rfl, ⟨m1, by omega, e2⟩, e3, e4.cg (fun _ => rfl) (fun i v _ hv => ⟨fun y => y.imp id (fun t => ⟨t.1, t.2.2⟩), fun y => y.imp id (fun t => ⟨t.1, hv, t.2⟩)⟩), e5⟩
/-- what leads to the target, from level h on -/
def GT (n tg bl first target H h : Nat) (j v : Nat) : Prop := h ≤ j ∧ j ≤ H ∧ tgo n tg bl first target H (H - j) v
theorem GT_step {first target H j v : Nat} (hH : h < H) : (GT n tg bl first target H (h + 1) j v ∨ (j = h ∧ lev n tg bl first h v ∧ ∃ p w, p < n ∧ w ∈ spr n tg bl v p ∧ GT n tg bl first target H (h + 1) (h + 1) w)) ↔ GT n tg bl first target H h j v := by
  unfold GT
  constructor
  · rintro (⟨y1, y2, y3⟩ | ⟨rfl, y1, p, w, y2, y3, y4, y5, y6⟩)
    · exact ⟨by omega, y2, y3⟩
    · refine ⟨Nat.le_refl _, by omega, ?_⟩
      rw [show H - j = (H - (j + 1)) + 1 by omega]
      refine ⟨?_, p, w, y2, y3, y6⟩
      rw [show H - (H - (j + 1) + 1) = j by omega]
      exact y1
  · rintro ⟨y1, y2, y3⟩
    by_cases z : j = h
    · subst z
      rw [show H - j = (H - (j + 1)) + 1 by omega] at y3
      obtain ⟨z1, p, w, z2, z3, z4⟩ := y3
      rw [show H - (H - (j + 1) + 1) = j by omega] at z1
      exact Or.inr ⟨rfl, z1, p, w, z2, z3, Nat.le_refl _, by omega, z4⟩
    · exact Or.inl ⟨by omega, y2, y3⟩
theorem x_marks_l (hq : isP q) (hn : n ≤ 5) (htg : tg < 1024) (hbl : bl < 100) {first target H : Nat} (hf : first < 9 ^ n) (hH : H ≤ 6) : ∀ (h m : Nat) (σ : St), h ≤ H → m + kk h + 300000 < 2147483648 → PQ q n tg bl m σ → BA (q + 1) (fun j v => j ≤ H ∧ lev n tg bl first j v) σ → BA (q + 2) (GT n tg bl first target H h) σ → ∃ σ' m', Rn (fun v : Int32 × St => bX3_marks_45 q v.1 v.2) (h + 1) (I h - 1, σ) σ' ∧ m' ≤ m + kk h ∧ PQ q n tg bl m' σ' ∧ BA (q + 1) (fun j v => j ≤ H ∧ lev n tg bl first j v) σ' ∧ BA (q + 2) (GT n tg bl first target H 0) σ' ∧ FrC q (q + 2) σ σ' := by
  intro h
  induction h with
  | zero =>
    intro m σ hh hm hQ hL hG
    refine ⟨σ, m, Rn.stop ?_, by omega, hQ, hL, hG, FrC.rf⟩
    show bX3_marks_45 q (I 0 - 1) σ = _
    unfold bX3_marks_45
    rw [if_pos (by decide)]
  | succ h ih =>
    intro m σ hh hm hQ hL hG
    have hks := kk_s h
    obtain ⟨s, m1, x1, x2, x3, x4, x5, x6⟩ := x_marks_h (h := h) hq hn htg hbl (by omega) hQ hL hG (by omega) (fun v hv => lev_lt hf hv.2)
    have x5' : BA (q + 2) (GT n tg bl first target H h) s := x5.cg (fun _ => rfl) (fun i v _ _ => (or_congr Iff.rfl ⟨fun t => ⟨t.1, t.2.1.2, t.2.2⟩, fun t => ⟨t.1, ⟨by omega, t.2.1⟩, t.2.2⟩⟩).trans (GT_step (by omega)))
    obtain ⟨σ', m', i1, i2, i3, i4, i5, i6⟩ := ih m1 s (by omega) (by omega) x3 x4 x5'
    refine ⟨σ', m', Rn.step (a' := (I h - 1, s)) ?_ i1, by omega, i3, i4, i5, x6.tr i6⟩
    show bX3_marks_45 q (I (h + 1) - 1) σ = _
    rw [show I (h + 1) - 1 = I h from I_sub (a := h + 1) (b := 1) (by omega) (by omega)]
    unfold bX3_marks_45
    rw [if_neg (show ¬ I h < 0 from by rw [lt_ti, I_toInt (by omega), Int32.toInt_zero]; omega), x1]
theorem GT_H {first target H j v : Nat} : (False ∨ (j = H ∧ v = target)) ↔ GT n tg bl first target H H j v := by
  unfold GT
  constructor
  · rintro (y | ⟨rfl, rfl⟩)
    · exact y.elim
    · refine ⟨Nat.le_refl _, Nat.le_refl _, ?_⟩
      rw [Nat.sub_self]
      exact rfl
  · rintro ⟨y1, y2, y3⟩
    have : j = H := by omega
    subst this
    rw [Nat.sub_self] at y3
    exact Or.inr ⟨rfl, y3⟩
theorem x_marks (hq : isP q) (hn : n ≤ 5) (htg : tg < 1024) (hbl : bl < 100) {first target H : Nat} (hf : first < 9 ^ n) (ht : target < 59049) (hH : H ≤ 6) (hm : m + 2200000 < 2147483648) (h15 : gI σ q 15 = I H) (hQ : PQ q n tg bl m σ) (hL : BA (q + 1) (fun j v => j ≤ H ∧ lev n tg bl first j v) σ) : ∃ σ' m', fX3_marks q (I target) σ = some σ' ∧ m' ≤ m + 1771470 ∧ PQ q n tg bl m' σ' ∧ BA (q + 2) (GT n tg bl first target H 0) σ' ∧ FrC q (q + 2) σ σ' := by
  have hq' : q = 24 ∨ q = 35 := hq
  obtain ⟨s, c1, c2, c3⟩ := clear_l (f := fun v : Int32 × St => bX3_marks_2 q (I target) v.1 v.2) (c := q + 2) (fun k s hk => by
    show bX3_marks_2 q (I target) (I k) s = _
    unfold bX3_marks_2
    rw [if_neg (show ¬ (59049 : Int32) ≤ I k from fun y => absurd ((I_le (a := 59049) (by omega) (by omega)).mp y) (by omega)), ckB_t (I_in (by omega) (by omega)), letB_t, letB_t, I_cl (by omega), show I k + 1 = I (k + 1) from I_add k 1, vp_nar_byte]
    rfl) (fun s => rfl) σ
  have fs : FrC q (q + 2) σ s := ⟨fun d _ d2 _ _ _ => c2 d d2, fun k _ _ => (c2 q (by omega)).1 k⟩
  have hQs : PQ q n tg bl m s := hQ.keep (fun k _ => (c2 q (by omega)).1 k) (c2 _ (by omega)).of ((c2 2 (by omega)).1 6) (c2 _ (by omega)).of
  have hGs := (BA.none c3).setB (v := target) (show H < 7 by omega) ht
  have hk6 := kk_6 H hH
  obtain ⟨σ', m', i1, i2, i3, i4, i5, i6⟩ := x_marks_l (target := target) hq hn htg hbl hf hH H m _ (Nat.le_refl _) (by omega) (hQs.frC (c := q + 2) (by omega) hq (fun d hd => gA_pA_n hd) (fun _ _ => rfl)) (hL.cg (fun w => by rw [gA_pA_n (by omega), (c2 (q + 1) (by omega)).2.1]) (fun _ _ _ _ => Iff.rfl)) (hGs.cg (fun _ => rfl) (fun i v _ _ => GT_H))
  refine ⟨σ', m', ?_, by omega, i3, i5, (fs.tr (FrC.pA (by omega))).tr i6⟩
  unfold fX3_marks fX3_marks_2
  rw [c1, bn1_s]
  unfold xX3_marks_2 fX3_marks_21
  have e15 : gI s q 15 = I H := ((c2 q (by omega)).1 15).trans h15
  rw [ckB_t (I_in (by omega) (by omega)), ckB_t (I_in (by omega) (by omega)), letB_t, letB_t, gI_pA, e15, I_cl (by omega)]
  unfold fX3_marks_45
  rw [i1.fu (by rw [FU_v]; omega), bn1_s]
  rfl
end XM
