/-! the plain law: x walks -/
set_option maxRecDepth 100000
/-- from level h on: still leads to the target by the cells -/
def GG (n tg bl first target H h : Nat) (j v : Nat) : Prop := h ≤ j ∧ j ≤ H ∧ goal n tg bl first target H (cellC n tg bl first target H) (H - j) v
theorem GG_H {n tg bl first target H j v : Nat} : (False ∨ (j = H ∧ v = target)) ↔ GG n tg bl first target H H j v := by
  unfold GG
  constructor
  · rintro (y | ⟨rfl, rfl⟩)
    · exact y.elim
    · refine ⟨Nat.le_refl _, Nat.le_refl _, ?_⟩
      rw [Nat.sub_self]
      exact rfl
  · rintro ⟨y1, y2, y3⟩
    have : j = H := by omega
    subst this
    rw [Nat.sub_self] at y3
    exact Or.inr ⟨rfl, y3⟩
theorem GG_step {n tg bl first target H h j v : Nat} (hH : h < H) : (GG n tg bl first target H (h + 1) j v ∨ (j = h ∧ onC n tg bl first target H h v ∧ ∃ w, w ∈ spr n tg bl v (cellC n tg bl first target H h) ∧ GG n tg bl first target H (h + 1) (h + 1) w)) ↔ GG n tg bl first target H h j v := by
  unfold GG
  constructor
  · rintro (⟨y1, y2, y3⟩ | ⟨rfl, y1, w, y3, y4, y5, y6⟩)
    · exact ⟨by omega, y2, y3⟩
    · refine ⟨Nat.le_refl _, by omega, ?_⟩
      rw [show H - j = (H - (j + 1)) + 1 by omega]
      unfold goal
      rw [show H - (H - (j + 1) + 1) = j by omega]
      exact ⟨(onC_e j v).mpr y1, w, y3, y6⟩
  · rintro ⟨y1, y2, y3⟩
    by_cases z : j = h
    · subst z
      rw [show H - j = (H - (j + 1)) + 1 by omega] at y3
      unfold goal at y3
      rw [show H - (H - (j + 1) + 1) = j by omega] at y3
      obtain ⟨z1, w, z3, z4⟩ := y3
      exact Or.inr ⟨rfl, (onC_e j v).mp z1, w, z3, Nat.le_refl _, by omega, z4⟩
    · exact Or.inl ⟨by omega, y2, y3⟩
section XW
variable {q n tg bl m h first target H : Nat} {σ : St} {G : Nat → Nat → Prop}
theorem x_walk_h (hq : isP q) (hn : n ≤ 5) (htg : tg < 1024) (hbl : bl < 100) (hf : first < 9 ^ n) (hH : H ≤ 6) (hl : lev n tg bl first H target) (hh : h < H) (hm : m + 100000 < 2147483648) (hQ : PQ q n tg bl m σ) (hO : BA (q + 3) (ON n tg bl first target H H) σ) (hG : BA (q + 2) G σ) (hpl : gA σ (q + 9) h = I (cellC n tg bl first target H h)) {a1 : Int32} : ∃ σ' m', fX3_walks_52 q a1 (I h) 0 σ = some (.inr (I h - 1, σ')) ∧ m' ≤ m + 59049 ∧ PQ q n tg bl m' σ' ∧ BA (q + 2) (fun j v => G j v ∨ (j = h ∧ onC n tg bl first target H h v ∧ ∃ w, w ∈ spr n tg bl v (cellC n tg bl first target H h) ∧ G (h + 1) w)) σ' ∧ FrC q (q + 2) σ σ' := by
  have hq' : q = 24 ∨ q = 35 := hq
  have hp9 := pow9_le hn (Nat.le_refl n)
  have hcn := (cellC_ok hl hh).1.1
  have key := Rn.up (f := fun v : Int32 × St => bX3_walks_52 q a1 (I h) v.1 v.2) (I := fun r st => st.1 = I r ∧ (∃ m', m' ≤ m + r ∧ PQ q n tg bl m' st.2) ∧ BA (q + 2) (fun j v => G j v ∨ (j = h ∧ v < r ∧ onC n tg bl first target H h v ∧ ∃ w, w ∈ spr n tg bl v (cellC n tg bl first target H h) ∧ G (h + 1) w)) st.2 ∧ FrC q (q + 2) σ st.2) (P := fun s => (∃ m', m' ≤ m + 59049 ∧ PQ q n tg bl m' s) ∧ BA (q + 2) (fun j v => G j v ∨ (j = h ∧ onC n tg bl first target H h v ∧ ∃ w, w ∈ spr n tg bl v (cellC n tg bl first target H h) ∧ G (h + 1) w)) s ∧ FrC q (q + 2) σ s) 59049 (fun r st hr hI => ?_) (fun st hI => ?_) (0, σ) ⟨rfl, ⟨m, Nat.le_refl _, hQ⟩, hG.cg (fun _ => rfl) (fun i v _ _ => ⟨Or.inl, fun y => y.elim id (fun t => absurd t.2.1 (by omega))⟩), FrC.rf⟩ (by rw [FU_v]; omega)
  · obtain ⟨s, k1, ⟨m', k2, k3⟩, k4, k5⟩ := key
    refine ⟨s, m', ?_, k2, k3, k4, k5⟩
    unfold fX3_walks_52
    rw [k1, bn1_s]
    unfold xX3_walks_52
    rw [letB_t, I_pred h (by omega)]
  · obtain ⟨i, s⟩ := st
    obtain ⟨e1, ⟨m1, hm1, e2⟩, e3, e4⟩ := hI
    have e1 : i = I r := e1
    subst e1
    have hO' : BA (q + 3) (ON n tg bl first target H H) s := hO.cg (fun w => (e4.1 (q + 3) (by omega) (by omega) (by omega) (by omega) (by omega)).2.1 w) (fun _ _ _ _ => Iff.rfl)
    have hpl' : gA s (q + 9) h = I (cellC n tg bl first target H h) := by rw [(e4.1 (q + 9) (by omega) (by omega) (by omega) (by omega) (by omega)).2.1]; exact hpl
    have hG1 : ∀ w, (G (h + 1) w ∨ (h + 1 = h ∧ w < r ∧ onC n tg bl first target H h w ∧ ∃ w', w' ∈ spr n tg bl w (cellC n tg bl first target H h) ∧ G (h + 1) w')) ↔ G (h + 1) w := fun w => ⟨fun y => y.elim id (fun t => by omega), Or.inl⟩
    show ∃ a', bX3_walks_52 q a1 (I h) (I r) s = _ ∧ _
    unfold bX3_walks_52
    rw [if_neg (show ¬ (59049 : Int32) ≤ I r from fun y => absurd ((I_le (a := 59049) (by omega) (by omega)).mp y) (by omega)), show I h + 1 = I (h + 1) from I_add h 1, show I r + 1 = I (r + 1) from I_add r 1]
    rcases x_is3 hO' hr (show h < 7 by omega) with ⟨w1, w2⟩ | ⟨w1, w2⟩
    · have hr9 := onC_lt hf w1.2
      obtain ⟨b, s', m2, z1, z2, z3, z4, z5⟩ := x_leadsTo (h := h + 1) hq hn htg hbl (show m1 + 1 < 2147483648 by omega) e2 e3 hr9 hcn (by omega)
      have e3' := e3.cg (σ' := s') (fun w => (z5.1 (q + 2) (by omega) (by omega) (by omega) (by omega)).2.1 w) (fun i v _ _ => Iff.rfl)
      rw [w2, bn1_s, if_neg (by decide), ckB_t (I_in (by omega) (by omega)), I_cl (by omega), hpl', z1, bn2_s]
      rcases z2 with ⟨rfl, w, t1, t2⟩ | ⟨rfl, z2⟩
      · rw [if_neg (by decide), ckB_t (I_in (by omega) (by omega)), ckB_t (I_in (by omega) (by omega)), letB_t, letB_t, I_cl (by omega)]
        refine ⟨_, rfl, rfl, ⟨m2, by omega, z4.frC (c := q + 2) (by omega) hq (fun d hd => gA_pA_n hd) (fun _ _ => rfl)⟩, (e3'.setB (show h < 7 by omega) hr).cg (fun _ => rfl) (fun i v _ _ => ?_), (e4.tr z5.C).tr (FrC.pA (by omega))⟩
        constructor
        · rintro ((y | ⟨y1, y2, y3⟩) | ⟨y1, y2⟩)
          · exact Or.inl y
          · exact Or.inr ⟨y1, by omega, y3⟩
          · exact Or.inr ⟨y1, by omega, by rw [y2]; exact w1.2, w, by rw [y2]; exact t1, (hG1 w).mp t2⟩
        · rintro (y | ⟨y1, y2, y3⟩)
          · exact Or.inl (Or.inl y)
          · by_cases u : v = r
            · exact Or.inr ⟨y1, u⟩
            · exact Or.inl (Or.inr ⟨y1, by omega, y3⟩)
      · rw [if_pos rfl, letB_t]
        refine ⟨_, rfl, rfl, ⟨m2, by omega, z4⟩, e3'.cg (fun _ => rfl) (fun i v _ _ => or_congr Iff.rfl ⟨fun t => ⟨t.1, by omega, t.2.2⟩, fun t => ⟨t.1, ?_, t.2.2⟩⟩), e4.tr z5.C⟩
        have : v ≠ r := fun u => by
          subst u
          obtain ⟨w, y1, y2⟩ := t.2.2.2
          exact z2 ⟨w, y1, (hG1 w).mpr y2⟩
        omega
    · have w1' : ¬ onC n tg bl first target H h r := fun y => w1 ⟨by omega, y⟩
      rw [w2, bn1_s, if_pos rfl, letB_t]
      refine ⟨_, rfl, rfl, ⟨m1, by omega, e2⟩, e3.cg (fun _ => rfl) (fun i v _ _ => or_congr Iff.rfl ⟨fun t => ⟨t.1, by omega, t.2.2⟩, fun t => ⟨t.1, ?_, t.2.2⟩⟩), e4⟩
      have : v ≠ r := fun u => w1' (u ▸ t.2.2.1)
      omega
  · obtain ⟨i, s⟩ := st
    obtain ⟨e1, ⟨m1, hm1, e2⟩, e3, e4⟩ := hI
    have e1 : i = I 59049 := e1
    subst e1
    exact ⟨s, rfl, ⟨m1, by omega, e2⟩, e3.cg (fun _ => rfl) (fun i v _ hv => or_congr Iff.rfl ⟨fun t => ⟨t.1, t.2.2⟩, fun t => ⟨t.1, hv, t.2⟩⟩), e4⟩
theorem x_walk_l (hq : isP q) (hn : n ≤ 5) (htg : tg < 1024) (hbl : bl < 100) (hf : first < 9 ^ n) (hH : H ≤ 6) (hl : lev n tg bl first H target) {a1 : Int32} : ∀ (h m : Nat) (σ : St), h ≤ H → m + kk h + 300000 < 2147483648 → PQ q n tg bl m σ → BA (q + 3) (ON n tg bl first target H H) σ → BA (q + 2) (GG n tg bl first target H h) σ → (∀ i, i < H → gA σ (q + 9) i = I (cellC n tg bl first target H i)) → ∃ σ' m', Rn (fun v : Int32 × St => bX3_walks_45 q a1 v.1 v.2) (h + 1) (I h - 1, σ) σ' ∧ m' ≤ m + kk h ∧ PQ q n tg bl m' σ' ∧ BA (q + 2) (GG n tg bl first target H 0) σ' ∧ FrC q (q + 2) σ σ' := by
  intro h
  induction h with
  | zero =>
    intro m σ hh hm hQ hO hG hpl
    refine ⟨σ, m, Rn.stop ?_, by omega, hQ, hG, FrC.rf⟩
    show bX3_walks_45 q a1 (I 0 - 1) σ = _
    unfold bX3_walks_45
    rw [if_pos (by decide)]
  | succ h ih =>
    intro m σ hh hm hQ hO hG hpl
    have hq' : q = 24 ∨ q = 35 := hq
    have hks := kk_s h
    obtain ⟨s, m1, x1, x2, x3, x4, x5⟩ := x_walk_h (h := h) (a1 := a1) hq hn htg hbl hf hH hl (by omega) (by omega) hQ hO hG (hpl h (by omega))
    have x4' : BA (q + 2) (GG n tg bl first target H h) s := x4.cg (fun _ => rfl) (fun i v _ _ => GG_step (by omega))
    obtain ⟨σ', m', i1, i2, i3, i4, i5⟩ := ih m1 s (by omega) (by omega) x3 (hO.cg (fun w => (x5.1 (q + 3) (by omega) (by omega) (by omega) (by omega) (by omega)).2.1 w) (fun _ _ _ _ => Iff.rfl)) x4' (fun i hi => by rw [(x5.1 (q + 9) (by omega) (by omega) (by omega) (by omega) (by omega)).2.1]; exact hpl i hi)
    refine ⟨σ', m', Rn.step (a' := (I h - 1, s)) ?_ i1, by omega, i3, i4, x5.tr i5⟩
    show bX3_walks_45 q a1 (I (h + 1) - 1) σ = _
    rw [show I (h + 1) - 1 = I h from I_sub (a := h + 1) (b := 1) (by omega) (by omega)]
    unfold bX3_walks_45
    rw [if_neg (show ¬ I h < 0 from by rw [lt_ti, I_toInt (by omega), Int32.toInt_zero]; omega), x1]
/-- the least of those that were found -/
theorem x_best (hG : BA (q + 2) G σ) {L : List Nat} (hF : Fnd q 12 (q + 5) L σ) (hL : ∀ x, x ∈ L → x < 59049) (hl : L.length ≤ 59049) (hh : h < 6) {b : Nat} (hb : b ∈ L ∧ G (h + 1) b) (hb2 : ∀ w, w ∈ L → G (h + 1) w → b ≤ w) : iter (fun v : Int32 × Int32 => bX3_walks_162 q (I h) v.1 v.2 σ) FU (1000000, 0) = some (I b) := by
  have key := Rn.up (f := fun v : Int32 × Int32 => bX3_walks_162 q (I h) v.1 v.2 σ) (I := fun k v => ∃ x, v = (I x, I k) ∧ ((x = 1000000 ∧ ∀ w, w ∈ L.take k → ¬ G (h + 1) w) ∨ (x ∈ L ∧ G (h + 1) x ∧ ∀ w, w ∈ L.take k → G (h + 1) w → x ≤ w))) (P := fun e => e = I b) L.length (fun k v hk hI => ?_) (fun v hI => ?_) (1000000, 0) ⟨1000000, rfl, Or.inl ⟨rfl, fun w hw => absurd hw (by simp)⟩⟩ (by rw [FU_v]; omega)
  · obtain ⟨e, k1, k2⟩ := key
    rw [k1, k2]
  · obtain ⟨x, rfl, hx⟩ := hI
    have hg : L[k]? = some L[k] := List.getElem?_eq_getElem hk
    have hw := hL L[k] (List.getElem_mem hk)
    have hxb : x < 2147483648 := by
      rcases hx with ⟨y, _⟩ | ⟨y, _⟩
      · omega
      · have := hL x y; omega
    have mt : ∀ x, x ∈ L.take (k + 1) ↔ (x ∈ L.take k ∨ x = L[k]) := fun x => by
      rw [List.take_succ, hg]
      exact List.mem_append.trans (or_congr Iff.rfl List.mem_singleton)
    show ∃ a', bX3_walks_162 q (I h) (I x) (I k) σ = _ ∧ _
    unfold bX3_walks_162
    rw [hF.1, if_neg (fun y => absurd ((I_le (by omega) (by omega)).mp y) (by omega)), ckB_t (I_in (by omega) (by omega)), I_cl (by omega), hF.2 k _ hg, show I h + 1 = I (h + 1) from I_add h 1, show I k + 1 = I (k + 1) from I_add k 1]
    rcases x_is2 hG hw (show h + 1 < 7 by omega) with ⟨w1, w2⟩ | ⟨w1, w2⟩
    · rw [w2, bn1_s, if_neg (by decide), ckB_t (I_in (by omega) (by omega)), letB_t, letB_t]
      by_cases z : L[k] < x
      · rw [if_pos ((I_lt (by omega) (by omega)).mpr z)]
        refine ⟨_, rfl, L[k], rfl, Or.inr ⟨List.getElem_mem hk, w1, fun w hw1 hw2 => ?_⟩⟩
        rcases (mt w).mp hw1 with y | y
        · rcases hx with ⟨_, y3⟩ | ⟨_, _, y3⟩
          · exact absurd hw2 (y3 w y)
          · have := y3 w y hw2; omega
        · omega
      · rw [if_neg (fun y => z ((I_lt (by omega) (by omega)).mp y))]
        rcases hx with ⟨y, _⟩ | ⟨y1, y2, y3⟩
        · omega
        · refine ⟨_, rfl, x, rfl, Or.inr ⟨y1, y2, fun w hw1 hw2 => ?_⟩⟩
          rcases (mt w).mp hw1 with y | y
          · exact y3 w y hw2
          · omega
    · rw [w2, bn1_s, if_pos rfl, letB_t]
      refine ⟨_, rfl, x, rfl, ?_⟩
      rcases hx with ⟨y1, y2⟩ | ⟨y1, y2, y3⟩
      · exact Or.inl ⟨y1, fun w hw1 hw2 => ((mt w).mp hw1).elim (fun t => y2 w t hw2) (fun t => w1 (t ▸ hw2))⟩
      · exact Or.inr ⟨y1, y2, fun w hw1 hw2 => ((mt w).mp hw1).elim (fun t => y3 w t hw2) (fun t => absurd (t ▸ hw2) w1)⟩
  · obtain ⟨x, rfl, hx⟩ := hI
    refine ⟨I x, ?_, ?_⟩
    · show bX3_walks_162 q (I h) (I x) (I L.length) σ = _
      unfold bX3_walks_162
      rw [hF.1, if_pos ((I_le (by omega) (by omega)).mpr (Nat.le_refl _))]
    · rw [List.take_length] at hx
      rcases hx with ⟨_, y2⟩ | ⟨y1, y2, y3⟩
      · exact absurd hb.2 (y2 b hb.1)
      · have h1 := y3 b hb.1 hb.2
        have h2 := hb2 x y1 y2
        rw [show x = b by omega]
def FrR (q : Nat) (σ σ' : St) : Prop := (∀ d, d ≠ q → d ≠ q + 2 → d ≠ q + 4 → d ≠ q + 5 → d ≠ q + 6 → d ≠ q + 10 → agc σ σ' d) ∧ ∀ k, k ≠ 12 → k ≠ 13 → gI σ' q k = gI σ q k
theorem FrR.rf {q : Nat} {σ : St} : FrR q σ σ := ⟨fun _ _ _ _ _ _ _ => agc.rf, fun _ _ _ => rfl⟩
theorem FrR.tr {q : Nat} {a b d : St} (h : FrR q a b) (h' : FrR q b d) : FrR q a d := ⟨fun e e1 e2 e3 e4 e5 e6 => (h.1 e e1 e2 e3 e4 e5 e6).tr (h'.1 e e1 e2 e3 e4 e5 e6), fun k h1 h2 => (h'.2 k h1 h2).trans (h.2 k h1 h2)⟩
theorem FrC.R {q : Nat} {a b : St} (h : FrC q (q + 2) a b) : FrR q a b := ⟨fun d d1 d2 d3 d4 d5 _ => h.1 d d1 d2 d3 d4 d5, h.2⟩
theorem FrQ.R {q : Nat} {a b : St} (h : FrQ q a b) : FrR q a b := ⟨fun d d1 _ d3 d4 d5 _ => h.1 d d1 d3 d4 d5, h.2⟩
theorem x_walks (hq : isP q) (hn : n ≤ 5) (htg : tg < 1024) (hbl : bl < 100) (hf : first < 9 ^ n) (ht : target < 59049) (hH : H ≤ 6) (hl : lev n tg bl first H target) (hm : m + 2200000 < 2147483648) (h15 : gI σ q 15 = I H) (hQ : PQ q n tg bl m σ) (hO : BA (q + 3) (ON n tg bl first target H H) σ) (hpl : ∀ i, i < H → gA σ (q + 9) i = I (cellC n tg bl first target H i)) : ∃ σ' m', fX3_walks q (I first) (I target) σ = some σ' ∧ m' ≤ m + 1771476 ∧ PQ q n tg bl m' σ' ∧ (∀ i, i ≤ H → gA σ' (q + 10) i = I (rowC n tg bl first target H i)) ∧ FrR q σ σ' := by
  have hq' : q = 24 ∨ q = 35 := hq
  have hp9 := pow9_le hn (Nat.le_refl n)
  obtain ⟨s, c1, c2, c3⟩ := clear_l (f := fun v : Int32 × St => bX3_walks_2 q (I first) (I target) v.1 v.2) (c := q + 2) (fun k s hk => by
    show bX3_walks_2 q (I first) (I target) (I k) s = _
    unfold bX3_walks_2
    rw [if_neg (show ¬ (59049 : Int32) ≤ I k from fun y => absurd ((I_le (a := 59049) (by omega) (by omega)).mp y) (by omega)), ckB_t (I_in (by omega) (by omega)), letB_t, letB_t, I_cl (by omega), show I k + 1 = I (k + 1) from I_add k 1, vp_nar_byte]
    rfl) (fun s => rfl) σ
  have fs : FrC q (q + 2) σ s := ⟨fun d _ d2 _ _ _ => c2 d d2, fun k _ _ => (c2 q (by omega)).1 k⟩
  have hQs : PQ q n tg bl m s := hQ.keep (fun k _ => (c2 q (by omega)).1 k) (c2 _ (by omega)).of ((c2 2 (by omega)).1 6) (c2 _ (by omega)).of
  have hGs := (BA.none c3).setB (v := target) (show H < 7 by omega) ht
  have hk6 := kk_6 H hH
  obtain ⟨s2, m2, i1, i2, i3, i4, i5⟩ := x_walk_l (a1 := I first) hq hn htg hbl hf hH hl H m _ (Nat.le_refl _) (by omega) (hQs.frC (c := q + 2) (by omega) hq (fun d hd => gA_pA_n hd) (fun _ _ => rfl)) (hO.cg (fun w => by rw [gA_pA_n (by omega), (c2 (q + 3) (by omega)).2.1]) (fun _ _ _ _ => Iff.rfl)) (hGs.cg (fun _ => rfl) (fun i v _ _ => GG_H)) (fun i hi => by rw [gA_pA_n (by omega), (c2 (q + 9) (by omega)).2.1]; exact hpl i hi)
  have f2 : FrC q (q + 2) σ s2 := (fs.tr (FrC.pA (by omega))).tr i5
  have hpl2 : ∀ i, i < H → gA s2 (q + 9) i = I (cellC n tg bl first target H i) := fun i hi => by rw [(f2.1 (q + 9) (by omega) (by omega) (by omega) (by omega) (by omega)).2.1]; exact hpl i hi
  have h152 : gI s2 q 15 = I H := (f2.2 15 (by omega) (by omega)).trans h15
  -- the rows
  have key := Rn.up (f := fun v : Int32 × St => bX3_walks_131 q v.1 v.2) (I := fun k st => st.1 = I k ∧ (∃ m', m' ≤ m2 + k ∧ PQ q n tg bl m' st.2) ∧ (∀ i, i ≤ k → gA st.2 (q + 10) i = I (rowC n tg bl first target H i)) ∧ BA (q + 2) (GG n tg bl first target H 0) st.2 ∧ FrR q σ st.2) (P := fun s' => (∃ m', m' ≤ m2 + H ∧ PQ q n tg bl m' s') ∧ (∀ i, i ≤ H → gA s' (q + 10) i = I (rowC n tg bl first target H i)) ∧ FrR q σ s') H (fun k st hk hI => ?_) (fun st hI => ?_) (0, pA s2 (q + 10) 0 (I first)) ⟨rfl, ⟨m2, Nat.le_refl _, i3.frC (c := q + 10) (by omega) hq (fun d hd => gA_pA_n hd) (fun _ _ => rfl)⟩, fun i hi => by
    have : i = 0 := by omega
    subst this
    show gA (pA s2 (q + 10) 0 (I first)) (q + 10) 0 = _
    rw [gA_upf, upf_s]
    rfl, i4.cg (fun w => by rw [gA_pA_n (by omega)]) (fun _ _ _ _ => Iff.rfl), f2.R.tr ⟨fun d _ _ _ _ _ d6 => agc.pA d6, fun _ _ _ => rfl⟩⟩ (by rw [FU_v]; omega)
  · obtain ⟨σ', k1, ⟨m', k2, k3⟩, k4, k5⟩ := key
    refine ⟨σ', m', ?_, by omega, k3, k4, k5⟩
    unfold fX3_walks fX3_walks_2
    rw [c1, bn1_s]
    unfold xX3_walks_2 fX3_walks_21
    have e15 : gI s q 15 = I H := ((c2 q (by omega)).1 15).trans h15
    rw [ckB_t (I_in (by omega) (by omega)), ckB_t (I_in (by omega) (by omega)), letB_t, letB_t, gI_pA, e15, I_cl (by omega)]
    unfold fX3_walks_45
    rw [i1.fu (by rw [FU_v]; omega), bn1_s]
    unfold xX3_walks_45 fX3_walks_122
    rw [ckB_t (show vp_in 0 7 from I_in (n := 0) (by omega) (by omega)), letB_t, show (0 : Int32).toNatClampNeg = 0 from rfl]
    unfold fX3_walks_131
    rw [k1, bn1_s]
    rfl
  · obtain ⟨i, s1⟩ := st
    obtain ⟨e1, ⟨m1, hm1, e2⟩, e3, e4, e5⟩ := hI
    have e1 : i = I k := e1
    subst e1
    have hrow := rowC_lt hl hf k (by omega)
    have hcn := (cellC_ok hl hk).1.1
    obtain ⟨⟨R1, R2⟩, R3⟩ := rowC_ok hl hk
    have hpl1 : gA s1 (q + 9) k = I (cellC n tg bl first target H k) := by rw [(e5.1 (q + 9) (by omega) (by omega) (by omega) (by omega) (by omega) (by omega)).2.1]; exact hpl k hk
    obtain ⟨s3, m3, x1, ⟨x2, x3⟩, x4, ⟨x5, x6⟩, x7⟩ := x_leads (q := q) hn hcn hrow htg hbl (by omega) (by omega) e2
    have hG3 : BA (q + 2) (GG n tg bl first target H 0) s3 := e4.cg (fun w => (x7.1 (q + 2) (by omega) (by omega) (by omega) (by omega)).2.1 w) (fun _ _ _ _ => Iff.rfl)
    have hgg : ∀ w, GG n tg bl first target H 0 (k + 1) w ↔ goal n tg bl first target H (cellC n tg bl first target H) (H - (k + 1)) w := fun w => ⟨fun t => t.2.2, fun t => ⟨Nat.zero_le _, by omega, t⟩⟩
    have hb := x_best (h := k) hG3 x4 (fun x hx => by have := x5 x hx; omega) x6 (by omega) ⟨R1, (hgg _).mpr R2⟩ (fun w hw1 hw2 => R3 w hw1 ((hgg w).mp hw2))
    refine ⟨(I (k + 1), pA s3 (q + 10) (k + 1) (I (rowC n tg bl first target H (k + 1)))), ?_, rfl, ⟨m3, by omega, x3.frC (c := q + 10) (by omega) hq (fun d hd => gA_pA_n hd) (fun _ _ => rfl)⟩, fun i hi => ?_, hG3.cg (fun w => by rw [gA_pA_n (by omega)]) (fun _ _ _ _ => Iff.rfl), (e5.tr x7.R).tr ⟨fun d _ _ _ _ _ d6 => agc.pA d6, fun _ _ _ => rfl⟩⟩
    · show bX3_walks_131 q (I k) s1 = _
      unfold bX3_walks_131
      rw [e5.2 15 (by omega) (by omega), h15, if_neg (fun y => absurd ((I_le (by omega) (by omega)).mp y) (by omega)), ckB_t (I_in (by omega) (by omega)), ckB_t (I_in (by omega) (by omega)), I_cl (by omega), e3 k (Nat.le_refl k), hpl1, x1, bn1_s]
      unfold fX3_walks_162
      rw [hb, bn1_s]
      unfold xX3_walks_162 fX3_walks_212
      rw [show I k + 1 = I (k + 1) from I_add k 1, ckB_t (I_in (by omega) (by omega)), letB_t, letB_t, I_cl (by omega)]
    · show gA (pA s3 (q + 10) (k + 1) _) (q + 10) i = _
      rw [gA_upf]
      unfold upf
      by_cases u : i = k + 1
      · rw [if_pos u, u]
      · rw [if_neg u, (x7.1 (q + 10) (by omega) (by omega) (by omega) (by omega)).2.1]
        exact e3 i (by omega)
  · obtain ⟨i, s1⟩ := st
    obtain ⟨e1, e2, e3, e4, e5⟩ := hI
    have e1 : i = I H := e1
    subst e1
    refine ⟨s1, ?_, e2, e3, e5⟩
    show bX3_walks_131 q (I H) s1 = _
    unfold bX3_walks_131
    rw [e5.2 15 (by omega) (by omega), h15, if_pos ((I_le (by omega) (by omega)).mpr (Nat.le_refl H))]
end XW
