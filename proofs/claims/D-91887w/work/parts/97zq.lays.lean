/-! the plain law: x's layers -/
set_option maxRecDepth 100000
def FrL (q : Nat) (σ σ' : St) : Prop := (∀ c, c ≠ q → c ≠ q + 1 → c ≠ q + 4 → c ≠ q + 5 → c ≠ q + 6 → c ≠ q + 8 → agc σ σ' c) ∧ ∀ k, k ≠ 12 → k ≠ 13 → k ≠ 16 → gI σ' q k = gI σ q k
theorem FrL.rf {q : Nat} {σ : St} : FrL q σ σ := ⟨fun _ _ _ _ _ _ _ => agc.rf, fun _ _ _ _ => rfl⟩
theorem FrL.tr {q : Nat} {a b c : St} (h : FrL q a b) (h' : FrL q b c) : FrL q a c := ⟨fun d d1 d2 d3 d4 d5 d6 => (h.1 d d1 d2 d3 d4 d5 d6).tr (h'.1 d d1 d2 d3 d4 d5 d6), fun k h1 h2 h3 => (h'.2 k h1 h2 h3).trans (h.2 k h1 h2 h3)⟩
theorem FrQ.L {q : Nat} {a b : St} (h : FrQ q a b) : FrL q a b := ⟨fun d d1 _ d3 d4 d5 _ => h.1 d d1 d3 d4 d5, fun k h1 h2 _ => h.2 k h1 h2⟩
def XL (q n tg bl m : Nat) (P : Nat → Nat → Prop) (h : Nat) (σ : St) : Prop := PQ q n tg bl m σ ∧ BA (q + 1) P σ ∧ gI σ q 16 = I h ∧ ∀ i, i < 7 → i ≤ h + 1 → gA σ (q + 8) i = I (cnt (P i) 59049)
theorem PQ.keep {q n tg bl m : Nat} {σ σ' : St} (h : PQ q n tg bl m σ) (h1 : ∀ k, k = 10 ∨ k = 11 ∨ k = 13 → gI σ' q k = gI σ q k) (h2 : gA σ' (q + 7) = gA σ (q + 7)) (h3 : gI σ' 2 6 = gI σ 2 6) (h4 : gA σ' (q + 4) = gA σ (q + 4)) : PQ q n tg bl m σ' := by
  unfold PQ
  rw [h1 10 (by omega), h1 11 (by omega), h1 13 (by omega), h2, h3, h4]
  exact h
theorem XL.cg {q n tg bl m h : Nat} {P P' : Nat → Nat → Prop} {σ : St} (hX : XL q n tg bl m P h σ) (hP : ∀ i v, i < 7 → v < 59049 → (P i v ↔ P' i v)) : XL q n tg bl m P' h σ := ⟨hX.1, hX.2.1.cg (fun _ => rfl) hP, hX.2.2.1, fun i hi hi2 => by rw [hX.2.2.2 i hi hi2, cnt_cg (fun v hv => hP i v hi hv)]⟩
section QL
variable {q n tg bl m h : Nat} {P : Nat → Nat → Prop} {σ : St}
theorem x_is1 (hB : BA (q + 1) P σ) {v i : Nat} (hv : v < 59049) (hi : i < 7) : (P i v ∧ fX3_is_cq1 q (I v) (I i) σ = some 1) ∨ (¬ P i v ∧ fX3_is_cq1 q (I v) (I i) σ = some 0) := by
  unfold fX3_is_cq1
  rw [ckB_t (I_in (by omega) (by omega)), I_cl (by omega)]
  rcases hB.bit hv hi with ⟨h1, h2⟩ | ⟨h1, h2⟩
  · exact Or.inl ⟨h1, by rw [h2, if_pos rfl]⟩
  · exact Or.inr ⟨h1, by rw [h2, if_neg (by decide)]⟩
theorem XL.enter (hX : XL q n tg bl m P h σ) (hq : isP q) (hh : h < 6) {w : Nat} (hw : w < 59049) : ∃ σ', fX3_enters q (I w) (I (h + 1)) σ = some σ' ∧ XL q n tg bl m (fun j v => P j v ∨ (j = h + 1 ∧ v = w)) h σ' ∧ (gI σ' q 12 = gI σ q 12 ∧ gA σ' (q + 5) = gA σ (q + 5)) ∧ FrL q σ σ' := by
  have hq' : q = 24 ∨ q = 35 := hq
  have hX' := hX
  obtain ⟨h1, h2, h3, h4⟩ := hX
  unfold fX3_enters
  rcases x_is1 h2 hw (show h + 1 < 7 by omega) with ⟨z, e⟩ | ⟨z, e⟩
  · rw [e, bn1_s, if_neg (by decide)]
    refine ⟨σ, rfl, hX'.cg (fun i v _ _ => ⟨Or.inl, fun y => y.elim id (fun t => by rw [t.1, t.2]; exact z)⟩), ⟨rfl, rfl⟩, FrL.rf⟩
  · rw [e, bn1_s, if_pos rfl, ckB_t (I_in (by omega) (by omega)), ckB_t (I_in (by omega) (by omega)), letB_t, ckB_t (I_in (by omega) (by omega)), ckB_t (I_in (by omega) (by omega)), letB_t, I_cl (by omega), I_cl (by omega), gA_pA_n (show q + 8 ≠ q + 1 by omega), h4 (h + 1) (by omega) (Nat.le_refl _)]
    have hc := cnt_le (P (h + 1)) 59049
    rw [show I (cnt (P (h + 1)) 59049) + 1 = I (cnt (P (h + 1)) 59049 + 1) from I_add _ 1]
    generalize hs : pA (pA σ (q + 1) w (vp_nar .byte ((gA σ (q + 1) w ||| (1 <<< (I (h + 1) &&& 31)).toInt8.toInt32).toInt8.toInt32))) (q + 8) (h + 1) (I (cnt (P (h + 1)) 59049 + 1)) = s
    have sA : ∀ c, c ≠ q + 1 → c ≠ q + 8 → gA s c = gA σ c := fun c c1 c2 => by rw [← hs, gA_pA_n c2, gA_pA_n c1]
    have sI : ∀ c k, gI s c k = gI σ c k := fun c k => by rw [← hs]; rfl
    have sR : ∀ c k, gR s c k = gR σ c k := fun c k => by rw [← hs]; rfl
    refine ⟨s, rfl, ⟨h1.keep (fun k _ => sI q k) (sA _ (by omega) (by omega)) (sI 2 6) (sA _ (by omega) (by omega)), ?_, by rw [sI]; exact h3, fun i hi hi2 => ?_⟩, ⟨sI q 12, sA _ (by omega) (by omega)⟩, fun c c1 c2 c3 c4 c5 c6 => ⟨fun k => sI c k, fun k => by rw [sA c c2 c6], fun k => sR c k⟩, fun k _ _ _ => sI q k⟩
    · refine h2.set (v := w) (x := vp_nar .byte ((gA σ (q + 1) w ||| (1 <<< (I (h + 1) &&& 31)).toInt8.toInt32).toInt8.toInt32)) (show h + 1 < 7 by omega) (fun t ht e => ?_) (fun v => ?_)
      · rw [e, vp_nar_byte]
        exact bset_b t ht (h + 1) (by omega)
      · rw [← hs, gA_pA_n (show q + 1 ≠ q + 8 by omega), gA_upf]
    · rw [← hs, gA_upf]
      unfold upf
      by_cases y : i = h + 1
      · have e1 : cnt ((fun j v => P j v ∨ (j = h + 1 ∧ v = w)) (h + 1)) 59049 = cnt (fun v => P (h + 1) v ∨ v = w) 59049 := cnt_cg (N := 59049) (fun v hv => ⟨fun t => t.imp id (fun u => u.2), fun t => t.imp id (fun u => ⟨rfl, u⟩)⟩)
        have e2 : cnt (fun v => P (h + 1) v ∨ v = w) 59049 = cnt (P (h + 1)) 59049 + 1 := cnt_add z hw
        rw [if_pos y, y]
        exact congrArg I (e1.trans e2).symm
      · have e1 : cnt (P i) 59049 = cnt ((fun j v => P j v ∨ (j = h + 1 ∧ v = w)) i) 59049 := cnt_cg (N := 59049) (fun v hv => ⟨Or.inl, fun t => t.elim id (fun u => absurd u.1 y)⟩)
        rw [if_neg y, gA_pA_n (show q + 8 ≠ q + 1 by omega), h4 i hi hi2]
        exact congrArg I e1
theorem XL.enters (hX : XL q n tg bl m P h σ) (hq : isP q) (hh : h < 6) {L : List Nat} (hF : Fnd q 12 (q + 5) L σ) (hL : ∀ x, x ∈ L → x < 59049) (hl : L.length ≤ 59049) {a2 a3 a4 a5 : Int32} : ∃ σ', fX3_lays_134 q a2 a3 a4 a5 0 σ = some (.inr (a5 + 1, σ')) ∧ XL q n tg bl m (fun j v => P j v ∨ (j = h + 1 ∧ v ∈ L)) h σ' ∧ FrL q σ σ' := by
  have key := Rn.up (f := fun v : Int32 × St => bX3_lays_134 q a2 a3 a4 a5 v.1 v.2) (I := fun k st => st.1 = I k ∧ XL q n tg bl m (fun j v => P j v ∨ (j = h + 1 ∧ v ∈ L.take k)) h st.2 ∧ Fnd q 12 (q + 5) L st.2 ∧ FrL q σ st.2) (P := fun σ' => XL q n tg bl m (fun j v => P j v ∨ (j = h + 1 ∧ v ∈ L)) h σ' ∧ FrL q σ σ') L.length (fun k st hk hI => ?_) (fun st hI => ?_) (0, σ) ⟨rfl, hX.cg (fun i v _ _ => ⟨Or.inl, fun y => y.elim id (fun t => absurd t.2 (by simp))⟩), hF, FrL.rf⟩ (by rw [FU_v]; omega)
  · obtain ⟨σ', k1, k2, k3⟩ := key
    refine ⟨σ', ?_, k2, k3⟩
    unfold fX3_lays_134
    rw [k1, bn1_s]
    rfl
  · obtain ⟨i, s⟩ := st
    obtain ⟨e, hX1, hF1, hR⟩ := hI
    have e : i = I k := e
    subst e
    have hg : L[k]? = some L[k] := List.getElem?_eq_getElem hk
    have hw := hL L[k] (List.getElem_mem hk)
    obtain ⟨s', x1, x2, ⟨x3, x4⟩, x5⟩ := XL.enter hX1 hq hh hw
    refine ⟨(I (k + 1), s'), ?_, rfl, x2.cg (fun i v _ _ => ?_), ⟨x3.trans hF1.1, fun i x hi => by rw [x4]; exact hF1.2 i x hi⟩, hR.tr x5⟩
    · show bX3_lays_134 q a2 a3 a4 a5 (I k) s = _
      unfold bX3_lays_134
      rw [hF1.1, if_neg (fun y => absurd ((I_le (by omega) (by omega)).mp y) (by omega)), ckB_t (I_in (by omega) (by omega)), I_cl (by omega), hF1.2 k _ hg, hX1.2.2.1, show I h + 1 = I (h + 1) from I_add h 1, x1, bn1_s, letB_t, show I k + 1 = I (k + 1) from I_add k 1]
    · rw [List.take_succ, hg]
      constructor
      · rintro ((y | ⟨y1, y2⟩) | ⟨y1, y2⟩)
        · exact Or.inl y
        · exact Or.inr ⟨y1, List.mem_append_left _ y2⟩
        · exact Or.inr ⟨y1, List.mem_append_right _ (by rw [y2]; exact List.mem_singleton.mpr rfl)⟩
      · rintro (y | ⟨y1, y2⟩)
        · exact Or.inl (Or.inl y)
        · rcases List.mem_append.mp y2 with z | z
          · exact Or.inl (Or.inr ⟨y1, z⟩)
          · exact Or.inr ⟨y1, List.mem_singleton.mp z⟩
  · obtain ⟨i, s⟩ := st
    obtain ⟨e, hX1, hF1, hR⟩ := hI
    have e : i = I L.length := e
    subst e
    refine ⟨s, ?_, hX1.cg (fun i v _ _ => by rw [List.take_length]), hR⟩
    show bX3_lays_134 q a2 a3 a4 a5 (I L.length) s = _
    unfold bX3_lays_134
    rw [hF1.1, if_pos ((I_le (by omega) (by omega)).mpr (Nat.le_refl _))]
theorem XL.rowp (hX : XL q n tg bl m P h σ) (hq : isP q) (hh : h < 6) (hn : n ≤ 5) (htg : tg < 1024) (hbl : bl < 100) (hm : m + 6 < 2147483648) {r : Nat} (hr : r < 59049) (hP : ∀ v, P h v → v < 9 ^ n) {a2 a3 : Int32} : ∃ σ' m', fX3_lays_97 q a2 a3 (I r) 0 σ = some (.inr (I (r + 1), σ')) ∧ m' ≤ m + 5 ∧ XL q n tg bl m' (fun j v => P j v ∨ (j = h + 1 ∧ P h r ∧ ∃ p, p < n ∧ v ∈ spr n tg bl r p)) h σ' ∧ FrL q σ σ' := by
  have hq' : q = 24 ∨ q = 35 := hq
  rcases x_is1 hX.2.1 hr (show h < 7 by omega) with ⟨z, e⟩ | ⟨z, e⟩
  · have hr9 := hP r z
    have key := Rn.up (f := fun v : Int32 × St => bX3_lays_97 q a2 a3 (I r) v.1 v.2) (I := fun p st => st.1 = I p ∧ (∃ m', m' ≤ m + p ∧ XL q n tg bl m' (fun j v => P j v ∨ (j = h + 1 ∧ ∃ p', p' < p ∧ v ∈ spr n tg bl r p')) h st.2) ∧ FrL q σ st.2) (P := fun σ' => (∃ m', m' ≤ m + n ∧ XL q n tg bl m' (fun j v => P j v ∨ (j = h + 1 ∧ ∃ p', p' < n ∧ v ∈ spr n tg bl r p')) h σ') ∧ FrL q σ σ') n (fun p st hp hI => ?_) (fun st hI => ?_) (0, σ) ⟨rfl, ⟨m, Nat.le_refl _, hX.cg (fun i v _ _ => ⟨Or.inl, fun y => y.elim id (fun t => by obtain ⟨-, p', h1, -⟩ := t; omega)⟩)⟩, FrL.rf⟩ (by rw [FU_v]; omega)
    · obtain ⟨σ', k1, ⟨m', k2, k3⟩, k4⟩ := key
      refine ⟨σ', m', ?_, by omega, k3.cg (fun i v _ _ => ⟨fun y => y.imp id (fun t => ⟨t.1, z, t.2⟩), fun y => y.imp id (fun t => ⟨t.1, t.2.2⟩)⟩), k4⟩
      unfold fX3_lays_97
      rw [k1, bn1_s]
      unfold xX3_lays_97
      rw [letB_t, show I r + 1 = I (r + 1) from I_add r 1]
    · obtain ⟨i, s⟩ := st
      obtain ⟨e1, ⟨m1, hm1, hX1⟩, hR⟩ := hI
      have e1 : i = I p := e1
      subst e1
      have e2 : fX3_is_cq1 q (I r) (I h) s = some 1 := by
        rcases x_is1 hX1.2.1 hr (show h < 7 by omega) with ⟨_, e⟩ | ⟨w, _⟩
        · exact e
        · exact absurd (Or.inl z) w
      obtain ⟨s1, m2, x1, ⟨x2, x3⟩, x4, ⟨x5, x6⟩, x7⟩ := x_leads (q := q) hn hp hr9 htg hbl (by omega) (by omega) hX1.1
      have hX2 : XL q n tg bl m2 (fun j v => P j v ∨ (j = h + 1 ∧ ∃ p', p' < p ∧ v ∈ spr n tg bl r p')) h s1 := ⟨x3, hX1.2.1.cg (fun v => (x7.1 (q + 1) (by omega) (by omega) (by omega) (by omega)).2.1 v) (fun _ _ _ _ => Iff.rfl), (x7.2 16 (by omega) (by omega)).trans hX1.2.2.1, fun i hi hi2 => by rw [(x7.1 (q + 8) (by omega) (by omega) (by omega) (by omega)).2.1]; exact hX1.2.2.2 i hi hi2⟩
      have hp9 := pow9_le hn (Nat.le_refl n)
      obtain ⟨s2, y1, y2, y3⟩ := XL.enters (a2 := a2) (a3 := a3) (a4 := I r) (a5 := I p) hX2 hq hh x4 (fun x hx => by have := x5 x hx; omega) x6
      refine ⟨(I (p + 1), s2), ?_, rfl, ⟨m2, by omega, y2.cg (fun i v _ _ => ?_)⟩, (hR.tr x7.L).tr y3⟩
      · show bX3_lays_97 q a2 a3 (I r) (I p) s = _
        unfold bX3_lays_97
        rw [hX1.1.1.1, if_neg (fun y => absurd ((I_le (by omega) (by omega)).mp y) (by omega)), hX1.2.2.1, e2, bn1_s, if_neg (by decide), x1, bn1_s, y1, show I p + 1 = I (p + 1) from I_add p 1]
      · constructor
        · rintro ((y | ⟨y1, p', y2, y3⟩) | ⟨y1, y2⟩)
          · exact Or.inl y
          · exact Or.inr ⟨y1, p', by omega, y3⟩
          · exact Or.inr ⟨y1, p, by omega, y2⟩
        · rintro (y | ⟨y1, p', y2, y3⟩)
          · exact Or.inl (Or.inl y)
          · by_cases w : p' = p
            · exact Or.inr ⟨y1, by rw [← w]; exact y3⟩
            · exact Or.inl (Or.inr ⟨y1, p', by omega, y3⟩)
    · obtain ⟨i, s⟩ := st
      obtain ⟨e1, hX1, hR⟩ := hI
      have e1 : i = I n := e1
      subst e1
      refine ⟨s, ?_, hX1, hR⟩
      obtain ⟨m1, -, hX2⟩ := hX1
      show bX3_lays_97 q a2 a3 (I r) (I n) s = _
      unfold bX3_lays_97
      rw [hX2.1.1.1, if_pos ((I_le (by omega) (by omega)).mpr (Nat.le_refl n))]
  · refine ⟨σ, m, ?_, by omega, hX.cg (fun i v _ _ => ⟨Or.inl, fun y => y.elim id (fun t => absurd t.2.1 z)⟩), FrL.rf⟩
    have hst : bX3_lays_97 q a2 a3 (I r) 0 σ = some (.inl σ) := by
      unfold bX3_lays_97
      rw [hX.1.1.1, hX.2.2.1, e, bn1_s, if_pos rfl]
      by_cases y : I n ≤ 0
      · rw [if_pos y]
      · rw [if_neg y]
    unfold fX3_lays_97
    rw [show iter (fun v : Int32 × St => bX3_lays_97 q a2 a3 (I r) v.1 v.2) FU (0, σ) = some σ from (Rn.stop (f := fun v : Int32 × St => bX3_lays_97 q a2 a3 (I r) v.1 v.2) (a := (0, σ)) hst).fu (by rw [FU_v]; omega), bn1_s]
    unfold xX3_lays_97
    rw [letB_t, show I r + 1 = I (r + 1) from I_add r 1]
/-- one level more -/
theorem XL.level (hX : XL q n tg bl m P h σ) (hq : isP q) (hh : h < 6) (hn : n ≤ 5) (htg : tg < 1024) (hbl : bl < 100) (hm : m + 300000 < 2147483648) (hP : ∀ v, P h v → v < 9 ^ n) {a2 a3 : Int32} : ∃ σ' m', fX3_lays_87 q a2 a3 0 σ = some (.inr (pI σ' q 16 (I (h + 1)))) ∧ m' ≤ m + 295245 ∧ XL q n tg bl m' (fun j v => P j v ∨ (j = h + 1 ∧ ∃ r p, P h r ∧ p < n ∧ v ∈ spr n tg bl r p)) h σ' ∧ FrL q σ σ' := by
  have hp9 := pow9_le hn (Nat.le_refl n)
  have key := Rn.up (f := fun v : Int32 × St => bX3_lays_87 q a2 a3 v.1 v.2) (I := fun r st => st.1 = I r ∧ (∃ m', m' ≤ m + 5 * r ∧ XL q n tg bl m' (fun j v => P j v ∨ (j = h + 1 ∧ ∃ r' p, r' < r ∧ P h r' ∧ p < n ∧ v ∈ spr n tg bl r' p)) h st.2) ∧ FrL q σ st.2) (P := fun σ' => (∃ m', m' ≤ m + 295245 ∧ XL q n tg bl m' (fun j v => P j v ∨ (j = h + 1 ∧ ∃ r p, P h r ∧ p < n ∧ v ∈ spr n tg bl r p)) h σ') ∧ FrL q σ σ') 59049 (fun r st hr hI => ?_) (fun st hI => ?_) (0, σ) ⟨rfl, ⟨m, Nat.le_refl _, hX.cg (fun i v _ _ => ⟨Or.inl, fun y => y.elim id (fun t => by obtain ⟨-, r', p', h1, -⟩ := t; omega)⟩)⟩, FrL.rf⟩ (by rw [FU_v]; omega)
  · obtain ⟨σ', k1, ⟨m', k2, k3⟩, k4⟩ := key
    refine ⟨σ', m', ?_, k2, k3, k4⟩
    unfold fX3_lays_87
    rw [k1, bn1_s]
    unfold xX3_lays_87 fX3_lays_178
    rw [letB_t, k3.2.2.1, show I h + 1 = I (h + 1) from I_add h 1]
  · obtain ⟨i, s⟩ := st
    obtain ⟨e1, ⟨m1, hm1, hX1⟩, hR⟩ := hI
    have e1 : i = I r := e1
    subst e1
    obtain ⟨s', m2, x1, x2, x3, x4⟩ := XL.rowp (a2 := a2) (a3 := a3) hX1 hq hh hn htg hbl (by omega) hr (fun v hv => hv.elim (hP v) (fun t => by omega))
    refine ⟨(I (r + 1), s'), ?_, rfl, ⟨m2, by omega, x3.cg (fun i v _ _ => ?_)⟩, hR.tr x4⟩
    · show bX3_lays_87 q a2 a3 (I r) s = _
      unfold bX3_lays_87
      rw [if_neg (show ¬ (59049 : Int32) ≤ I r from fun y => absurd ((I_le (a := 59049) (by omega) (by omega)).mp y) (by omega)), x1]
    · constructor
      · rintro ((y | ⟨y1, r', p, y2, y3⟩) | ⟨y1, (y2 | y2), p, y3, y4⟩)
        · exact Or.inl y
        · exact Or.inr ⟨y1, r', p, by omega, y3⟩
        · exact Or.inr ⟨y1, r, p, by omega, y2, y3, y4⟩
        · omega
      · rintro (y | ⟨y1, r', p, y2, y3, y4, y5⟩)
        · exact Or.inl (Or.inl y)
        · by_cases w : r' = r
          · subst w
            exact Or.inr ⟨y1, Or.inl y3, p, y4, y5⟩
          · exact Or.inl (Or.inr ⟨y1, r', p, by omega, y3, y4, y5⟩)
  · obtain ⟨i, s⟩ := st
    obtain ⟨e1, ⟨m1, hm1, hX1⟩, hR⟩ := hI
    have e1 : i = I 59049 := e1
    subst e1
    refine ⟨s, rfl, ⟨m1, by omega, hX1.cg (fun i v _ _ => ?_)⟩, hR⟩
    constructor
    · rintro (y | ⟨y1, r', p, y2, y3⟩)
      · exact Or.inl y
      · exact Or.inr ⟨y1, r', p, y3⟩
    · rintro (y | ⟨y1, r', p, y3, y4⟩)
      · exact Or.inl y
      · exact Or.inr ⟨y1, r', p, by have := hP r' y3; omega, y3, y4⟩
end QL
