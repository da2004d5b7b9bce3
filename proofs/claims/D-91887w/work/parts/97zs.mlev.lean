/-! the plain law: the model's levels -/
set_option maxRecDepth 100000
def FrV (σ σ' : St) : Prop := (∀ c, c ≠ 0 → c ≠ 19 → c ≠ 23 → c ≠ 24 → agc σ σ' c) ∧ ∀ k, k ≠ 58 → k ≠ 56 → gI σ' 0 k = gI σ 0 k
theorem FrV.rf {σ : St} : FrV σ σ := ⟨fun _ _ _ _ _ => agc.rf, fun _ _ _ => rfl⟩
theorem FrV.tr {a b c : St} (h : FrV a b) (h' : FrV b c) : FrV a c := ⟨fun d d1 d2 d3 d4 => (h.1 d d1 d2 d3 d4).tr (h'.1 d d1 d2 d3 d4), fun k h1 h2 => (h'.2 k h1 h2).trans (h.2 k h1 h2)⟩
theorem FrM.V {a b : St} (h : FrM a b) : FrV a b := ⟨fun d d1 _ d3 d4 => h.1 d d1 d3 d4, h.2⟩
def MB (n tg m : Nat) (P : Nat → Nat → Prop) (σ : St) : Prop := PM n tg m σ ∧ BA 19 P σ
theorem PM.keep {n tg m : Nat} {σ σ' : St} (h : PM n tg m σ) (h1 : gI σ' 0 56 = gI σ 0 56) (h2 : gA σ' 2 = gA σ 2) (h3 : gA σ' 18 = gA σ 18) (h4 : gA σ' 23 = gA σ 23) : PM n tg m σ' := by
  unfold PM
  rw [h1, h2, h3, h4]
  exact h
theorem MB.cg {n tg m : Nat} {P P' : Nat → Nat → Prop} {σ : St} (hX : MB n tg m P σ) (hP : ∀ i v, i < 7 → v < 59049 → (P i v ↔ P' i v)) : MB n tg m P' σ := ⟨hX.1, hX.2.cg (fun _ => rfl) hP⟩
theorem add1_nd {L : List Nat} {w : Nat} (h : L.Nodup) : (add1 L w).Nodup := by
  by_cases q : w ∈ L
  · rw [add1_in q]; exact h
  · rw [add1_out q, List.nodup_append]
    exact ⟨h, by simp, fun a ha b hb => by rw [List.mem_singleton.mp hb]; exact fun y => q (y ▸ ha)⟩
theorem addL_nd : ∀ (ws L : List Nat), L.Nodup → (addL L ws).Nodup
  | [], L, h => h
  | w :: ws, L, h => addL_nd ws (add1 L w) (add1_nd h)
theorem rnd_nd {n p : Nat} : ∀ (ws A : List Nat), A.Nodup → (ws.foldl (fun acc v => addL acc (mvs n v p)) A).Nodup
  | [], A, h => h
  | v :: ws, A, h => rnd_nd ws (addL A (mvs n v p)) (addL_nd _ _ h)
theorem rnds_nd {n p : Nat} : ∀ (k : Nat) (L : List Nat) (fr : Nat), L.Nodup → (rnds n p k L fr).Nodup
  | 0, L, _, h => h
  | k + 1, L, fr, h => rnds_nd k _ _ (rnd_nd _ L h)
theorem spr_len {n tg bl p v : Nat} (hn : n ≤ 5) (hv : v < 9 ^ n) : (spr n tg bl v p).length ≤ 59049 := by
  have hp9 := pow9_le hn (Nat.le_refl n)
  refine nodup_lt _ _ ?_ (fun x hx => by have := spr_lt hv hx; omega)
  rw [spr_e]
  by_cases q : held n tg v p = true
  · rw [if_pos q]; exact rnds_nd _ _ _ (by simp)
  · rw [if_neg q]; exact List.nodup_nil
section SL
variable {n tg bl m h : Nat} {P : Nat → Nat → Prop} {σ : St}
theorem MB.enters (hX : MB n tg m P σ) (hh : h < 6) {L : List Nat} (hF : Fnd 0 58 24 L σ) (hL : ∀ x, x ∈ L → x < 59049) (hl : L.length ≤ 59049) {a2 a3 a4 a6 a7 : Int32} : ∃ σ', fX6_findLevels_116 a2 a3 a4 (I h) a6 a7 0 σ = some (.inr (a7 + 1, σ')) ∧ MB n tg m (fun j v => P j v ∨ (j = h + 1 ∧ v ∈ L)) σ' ∧ FrV σ σ' := by
  have key := Rn.up (f := fun v : Int32 × St => bX6_findLevels_116 a2 a3 a4 (I h) a6 a7 v.1 v.2) (I := fun k st => st.1 = I k ∧ MB n tg m (fun j v => P j v ∨ (j = h + 1 ∧ v ∈ L.take k)) st.2 ∧ Fnd 0 58 24 L st.2 ∧ FrV σ st.2) (P := fun σ' => MB n tg m (fun j v => P j v ∨ (j = h + 1 ∧ v ∈ L)) σ' ∧ FrV σ σ') L.length (fun k st hk hI => ?_) (fun st hI => ?_) (0, σ) ⟨rfl, hX.cg (fun i v _ _ => ⟨Or.inl, fun y => y.elim id (fun t => absurd t.2 (by simp))⟩), hF, FrV.rf⟩ (by rw [FU_v]; omega)
  · obtain ⟨σ', k1, k2, k3⟩ := key
    refine ⟨σ', ?_, k2, k3⟩
    unfold fX6_findLevels_116
    rw [k1, bn1_s]
    rfl
  · obtain ⟨i, s⟩ := st
    obtain ⟨e, hX1, hF1, hR⟩ := hI
    have e : i = I k := e
    subst e
    have hg : L[k]? = some L[k] := List.getElem?_eq_getElem hk
    have hw := hL L[k] (List.getElem_mem hk)
    refine ⟨(I (k + 1), pA s 19 L[k] (gA s 19 L[k] ||| (1 <<< (I (h + 1) &&& 31)))), ?_, rfl, ⟨hX1.1.keep rfl (gA_pA_n (by omega)) (gA_pA_n (by omega)) (gA_pA_n (by omega)), ?_⟩, ⟨hF1.1, fun i x hi => by rw [gA_pA_n (by omega)]; exact hF1.2 i x hi⟩, hR.tr ⟨fun c _ c2 _ _ => agc.pA c2, fun _ _ _ => rfl⟩⟩
    · show bX6_findLevels_116 a2 a3 a4 (I h) a6 a7 (I k) s = _
      unfold bX6_findLevels_116
      rw [hF1.1, if_neg (fun y => absurd ((I_le (by omega) (by omega)).mp y) (by omega)), ckB_t (I_in (by omega) (by omega)), I_cl (by omega), hF1.2 k _ hg, letB_t, ckB_t (I_in (by omega) (by omega)), ckB_t (I_in (by omega) (by omega)), letB_t, letB_t, I_cl (by omega), show I h + 1 = I (h + 1) from I_add h 1, show I k + 1 = I (k + 1) from I_add k 1]
    · refine (hX1.2.set (v := L[k]) (i := h + 1) (by omega) (fun t ht e => ?_) (fun w => by rw [gA_upf])).cg (fun _ => rfl) (fun i v _ _ => ?_)
      · rw [e]
        exact bit_s t (by omega) (h + 1) (by omega)
      · rw [List.take_succ, hg]
        constructor
        · rintro ((y | ⟨y1, y2⟩) | ⟨y1, y2⟩)
          · exact Or.inl y
          · exact Or.inr ⟨y1, List.mem_append_left _ y2⟩
          · exact Or.inr ⟨y1, List.mem_append_right _ (by rw [y2]; exact List.mem_singleton.mpr rfl)⟩
        · rintro (y | ⟨y1, y2⟩)
          · exact Or.inl (Or.inl y)
          · rcases List.mem_append.mp y2 with z | z
            · exact Or.inl (Or.inr ⟨y1, z⟩)
            · exact Or.inr ⟨y1, List.mem_singleton.mp z⟩
  · obtain ⟨i, s⟩ := st
    obtain ⟨e, hX1, hF1, hR⟩ := hI
    have e : i = I L.length := e
    subst e
    refine ⟨s, ?_, hX1.cg (fun i v _ _ => by rw [List.take_length]), hR⟩
    show bX6_findLevels_116 a2 a3 a4 (I h) a6 a7 (I L.length) s = _
    unfold bX6_findLevels_116
    rw [hF1.1, if_pos ((I_le (by omega) (by omega)).mpr (Nat.le_refl _))]
theorem MB.rowp (hX : MB n tg m P σ) (hh : h < 6) (hn : n ≤ 5) (htg : tg < 1024) (hbl : bl < 100) (hm : m + 6 < 2147483648) {r : Nat} (hr : r < 59049) (hP : ∀ v, P h v → v < 9 ^ n) {a3 a4 : Int32} : ∃ σ' m', fX6_findLevels_77 (I bl) a3 a4 (I h) (I r) 0 σ = some (.inr (I (r + 1), σ')) ∧ m' ≤ m + 5 ∧ MB n tg m' (fun j v => P j v ∨ (j = h + 1 ∧ P h r ∧ ∃ p, p < n ∧ v ∈ spr n tg bl r p)) σ' ∧ FrV σ σ' := by
  rcases hX.2.bit hr (show h < 7 by omega) with ⟨z, e⟩ | ⟨z, e⟩
  · have hr9 := hP r z
    have key := Rn.up (f := fun v : Int32 × St => bX6_findLevels_77 (I bl) a3 a4 (I h) (I r) v.1 v.2) (I := fun p st => st.1 = I p ∧ (∃ m', m' ≤ m + p ∧ MB n tg m' (fun j v => P j v ∨ (j = h + 1 ∧ ∃ p', p' < p ∧ v ∈ spr n tg bl r p')) st.2) ∧ FrV σ st.2) (P := fun σ' => (∃ m', m' ≤ m + n ∧ MB n tg m' (fun j v => P j v ∨ (j = h + 1 ∧ ∃ p', p' < n ∧ v ∈ spr n tg bl r p')) σ') ∧ FrV σ σ') n (fun p st hp hI => ?_) (fun st hI => ?_) (0, σ) ⟨rfl, ⟨m, Nat.le_refl _, hX.cg (fun i v _ _ => ⟨Or.inl, fun y => y.elim id (fun t => by obtain ⟨-, p', h1, -⟩ := t; omega)⟩)⟩, FrV.rf⟩ (by rw [FU_v]; omega)
    · obtain ⟨σ', k1, ⟨m', k2, k3⟩, k4⟩ := key
      refine ⟨σ', m', ?_, by omega, k3.cg (fun i v _ _ => ⟨fun y => y.imp id (fun t => ⟨t.1, z, t.2⟩), fun y => y.imp id (fun t => ⟨t.1, t.2.2⟩)⟩), k4⟩
      unfold fX6_findLevels_77
      rw [k1, bn1_s]
      unfold xX6_findLevels_77
      rw [letB_t, show I r + 1 = I (r + 1) from I_add r 1]
    · obtain ⟨i, s⟩ := st
      obtain ⟨e1, ⟨m1, hm1, hX1⟩, hR⟩ := hI
      have e1 : i = I p := e1
      subst e1
      have e2 : (gA s 19 r >>> (I h &&& 31)) &&& 1 = 1 := by
        rcases hX1.2.bit hr (show h < 7 by omega) with ⟨_, e⟩ | ⟨w, _⟩
        · exact e
        · exact absurd (Or.inl z) w
      obtain ⟨s1, m2, x1, ⟨x2, x3⟩, x4, x7⟩ := m_spread (bl := bl) hn hp hr9 htg hbl (by omega) hX1.1
      have hX2 : MB n tg m2 (fun j v => P j v ∨ (j = h + 1 ∧ ∃ p', p' < p ∧ v ∈ spr n tg bl r p')) s1 := ⟨x3, hX1.2.cg (fun v => (x7.1 19 (by omega) (by omega) (by omega)).2.1 v) (fun _ _ _ _ => Iff.rfl)⟩
      have hp9 := pow9_le hn (Nat.le_refl n)
      have hsl : ∀ x, x ∈ spr n tg bl r p → x < 59049 := fun x hx => by have := spr_lt hr9 hx; omega
      have hlen : (spr n tg bl r p).length ≤ 59049 := spr_len hn hr9
      obtain ⟨s2, y1, y2, y3⟩ := MB.enters (a2 := I bl) (a3 := a3) (a4 := a4) (a6 := I r) (a7 := I p) hX2 hh x4 hsl hlen
      refine ⟨(I (p + 1), s2), ?_, rfl, ⟨m2, by omega, y2.cg (fun i v _ _ => ?_)⟩, (hR.tr x7.V).tr y3⟩
      · show bX6_findLevels_77 (I bl) a3 a4 (I h) (I r) (I p) s = _
        unfold bX6_findLevels_77
        rw [ckB_l (by decide), show (0 : Int32).toNatClampNeg = 0 from rfl, hX1.1.1.1, if_neg (fun y => absurd ((I_le (by omega) (by omega)).mp y) (by omega)), ckB_t (I_in (by omega) (by omega)), I_cl (by omega), e2, if_pos rfl, x1, bn1_s, y1, show I p + 1 = I (p + 1) from I_add p 1]
      · constructor
        · rintro ((y | ⟨y1, p', y2, y3⟩) | ⟨y1, y2⟩)
          · exact Or.inl y
          · exact Or.inr ⟨y1, p', by omega, y3⟩
          · exact Or.inr ⟨y1, p, by omega, y2⟩
        · rintro (y | ⟨y1, p', y2, y3⟩)
          · exact Or.inl (Or.inl y)
          · by_cases w : p' = p
            · exact Or.inr ⟨y1, by rw [← w]; exact y3⟩
            · exact Or.inl (Or.inr ⟨y1, p', by omega, y3⟩)
    · obtain ⟨i, s⟩ := st
      obtain ⟨e1, hX1, hR⟩ := hI
      have e1 : i = I n := e1
      subst e1
      refine ⟨s, ?_, hX1, hR⟩
      obtain ⟨m1, -, hX2⟩ := hX1
      show bX6_findLevels_77 (I bl) a3 a4 (I h) (I r) (I n) s = _
      unfold bX6_findLevels_77
      rw [ckB_l (by decide), show (0 : Int32).toNatClampNeg = 0 from rfl, hX2.1.1.1, if_pos ((I_le (by omega) (by omega)).mpr (Nat.le_refl n))]
  · refine ⟨σ, m, ?_, by omega, hX.cg (fun i v _ _ => ⟨Or.inl, fun y => y.elim id (fun t => absurd t.2.1 z)⟩), FrV.rf⟩
    have hst : bX6_findLevels_77 (I bl) a3 a4 (I h) (I r) 0 σ = some (.inl σ) := by
      unfold bX6_findLevels_77
      rw [ckB_l (by decide), ckB_t (I_in (by omega) (by omega)), I_cl (by omega), e]
      by_cases y : gA σ 2 (0 : Int32).toNatClampNeg ≤ 0
      · rw [if_pos y]
      · rw [if_neg y, if_neg (show ¬ (0 : Int32) = 1 by decide)]
    unfold fX6_findLevels_77
    rw [show iter (fun v : Int32 × St => bX6_findLevels_77 (I bl) a3 a4 (I h) (I r) v.1 v.2) FU (0, σ) = some σ from (Rn.stop (f := fun v : Int32 × St => bX6_findLevels_77 (I bl) a3 a4 (I h) (I r) v.1 v.2) (a := (0, σ)) hst).fu (by rw [FU_v]; omega), bn1_s]
    unfold xX6_findLevels_77
    rw [letB_t, show I r + 1 = I (r + 1) from I_add r 1]
theorem MB.level (hX : MB n tg m P σ) (hh : h < 6) (hn : n ≤ 5) (htg : tg < 1024) (hbl : bl < 100) (hm : m + 300000 < 2147483648) (hP : ∀ v, P h v → v < 9 ^ n) {a3 a4 : Int32} : ∃ σ' m', fX6_findLevels_67 (I bl) a3 a4 (I h) 0 σ = some (.inr (I (h + 1), σ')) ∧ m' ≤ m + 295245 ∧ MB n tg m' (fun j v => P j v ∨ (j = h + 1 ∧ ∃ r p, P h r ∧ p < n ∧ v ∈ spr n tg bl r p)) σ' ∧ FrV σ σ' := by
  have hp9 := pow9_le hn (Nat.le_refl n)
  have key := Rn.up (f := fun v : Int32 × St => bX6_findLevels_67 (I bl) a3 a4 (I h) v.1 v.2) (I := fun r st => st.1 = I r ∧ (∃ m', m' ≤ m + 5 * r ∧ MB n tg m' (fun j v => P j v ∨ (j = h + 1 ∧ ∃ r' p, r' < r ∧ P h r' ∧ p < n ∧ v ∈ spr n tg bl r' p)) st.2) ∧ FrV σ st.2) (P := fun σ' => (∃ m', m' ≤ m + 295245 ∧ MB n tg m' (fun j v => P j v ∨ (j = h + 1 ∧ ∃ r p, P h r ∧ p < n ∧ v ∈ spr n tg bl r p)) σ') ∧ FrV σ σ') 59049 (fun r st hr hI => ?_) (fun st hI => ?_) (0, σ) ⟨rfl, ⟨m, Nat.le_refl _, hX.cg (fun i v _ _ => ⟨Or.inl, fun y => y.elim id (fun t => by obtain ⟨-, r', p', h1, -⟩ := t; omega)⟩)⟩, FrV.rf⟩ (by rw [FU_v]; omega)
  · obtain ⟨σ', k1, ⟨m', k2, k3⟩, k4⟩ := key
    refine ⟨σ', m', ?_, k2, k3, k4⟩
    unfold fX6_findLevels_67
    rw [k1, bn1_s]
    unfold xX6_findLevels_67
    rw [letB_t, show I h + 1 = I (h + 1) from I_add h 1]
  · obtain ⟨i, s⟩ := st
    obtain ⟨e1, ⟨m1, hm1, hX1⟩, hR⟩ := hI
    have e1 : i = I r := e1
    subst e1
    obtain ⟨s', m2, x1, x2, x3, x4⟩ := MB.rowp (a3 := a3) (a4 := a4) hX1 hh hn htg hbl (by omega) hr (fun v hv => hv.elim (hP v) (fun t => by omega))
    refine ⟨(I (r + 1), s'), ?_, rfl, ⟨m2, by omega, x3.cg (fun i v _ _ => ?_)⟩, hR.tr x4⟩
    · show bX6_findLevels_67 (I bl) a3 a4 (I h) (I r) s = _
      unfold bX6_findLevels_67
      rw [if_neg (show ¬ (59049 : Int32) ≤ I r from fun y => absurd ((I_le (a := 59049) (by omega) (by omega)).mp y) (by omega)), x1]
    · constructor
      · rintro ((y | ⟨y1, r', p, y2, y3⟩) | ⟨y1, (y2 | y2), p, y3, y4⟩)
        · exact Or.inl y
        · exact Or.inr ⟨y1, r', p, by omega, y3⟩
        · exact Or.inr ⟨y1, r, p, by omega, y2, y3, y4⟩
        · omega
      · rintro (y | ⟨y1, r', p, y2, y3, y4, y5⟩)
        · exact Or.inl (Or.inl y)
        · by_cases w : r' = r
          · subst w
            exact Or.inr ⟨y1, Or.inl y3, p, y4, y5⟩
          · exact Or.inl (Or.inr ⟨y1, r', p, by omega, y3, y4, y5⟩)
  · obtain ⟨i, s⟩ := st
    obtain ⟨e1, ⟨m1, hm1, hX1⟩, hR⟩ := hI
    have e1 : i = I 59049 := e1
    subst e1
    refine ⟨s, rfl, ⟨m1, by omega, hX1.cg (fun i v _ _ => ?_)⟩, hR⟩
    constructor
    · rintro (y | ⟨y1, r', p, y2, y3⟩)
      · exact Or.inl y
      · exact Or.inr ⟨y1, r', p, y3⟩
    · rintro (y | ⟨y1, r', p, y3, y4⟩)
      · exact Or.inl y
      · exact Or.inr ⟨y1, r', p, by have := hP r' y3; omega, y3, y4⟩
theorem m_lays_loop {first : Nat} (hn : n ≤ 5) (htg : tg < 1024) (hbl : bl < 100) (hf : first < 9 ^ n) {a3 : Int32} (ha3 : goalIs a3 (fun _ => True)) {most : Nat} (hmost : most ≤ 6) : ∀ (d h m : Nat) (σ : St), h + d = most → m + kk d + 300000 < 2147483648 → MB n tg m (fun j v => j ≤ h ∧ lev n tg bl first j v) σ → (∀ t, a3 = I t → t < 59049 → ∀ i, i < h → ¬ lev n tg bl first i t) → ∃ h' e σ' m', Rn (fun v : Int32 × St => bX6_findLevels_34 (I bl) a3 (I most) v.1 v.2) (d + 1) (I h, σ) e ∧ (h ≤ h' ∧ h' ≤ most) ∧ MB n tg m' (fun j v => j ≤ h' ∧ lev n tg bl first j v) σ' ∧ m' ≤ m + kk d ∧ FrV σ σ' ∧ (a3 = -1 → h' = most) ∧ (∀ t, a3 = I t → t < 59049 → (∀ i, i < h' → ¬ lev n tg bl first i t)) ∧ ((h' = most ∧ e = .inr σ') ∨ ∃ t, a3 = I t ∧ t < 59049 ∧ lev n tg bl first h' t ∧ e = .inl (I h', σ')) := by
  intro d
  induction d with
  | zero =>
    intro h m σ hd hm hX hno
    refine ⟨h, .inr σ, σ, m, Rn.stop ?_, ⟨Nat.le_refl _, by omega⟩, hX, by omega, FrV.rf, fun _ => by omega, fun t ht ht2 => hno t ht ht2, Or.inl ⟨by omega, rfl⟩⟩
    show bX6_findLevels_34 (I bl) a3 (I most) (I h) σ = _
    unfold bX6_findLevels_34
    rw [if_pos ((I_le (by omega) (by omega)).mpr (by omega))]
  | succ d ih =>
    intro h m σ hd hm hX hno
    have hks := kk_s d
    have hb0 : bX6_findLevels_34 (I bl) a3 (I most) (I h) σ = if a3 = (-1) then fX6_findLevels_67 (I bl) a3 (I most) (I h) 0 σ else ckB a3 59049 (if (((gA σ 19 a3.toNatClampNeg) >>> (I h &&& 31)) &&& 1) = 1 then some (.inl (.inl (I h, σ))) else fX6_findLevels_67 (I bl) a3 (I most) (I h) 0 σ) := by
      unfold bX6_findLevels_34
      rw [if_neg (fun y => absurd ((I_le (by omega) (by omega)).mp y) (by omega))]
    obtain ⟨s, m1, x1, x2, x3, x4⟩ := hX.level (bl := bl) (a3 := a3) (a4 := I most) (show h < 6 by omega) hn htg hbl (by omega) (fun v hv => lev_lt hf hv.2)
    have x3' : MB n tg m1 (fun j v => j ≤ h + 1 ∧ lev n tg bl first j v) s := x3.cg (fun i v _ _ => lev_P)
    rcases ha3 with ha3 | ⟨t, ht, ht2, -⟩
    · obtain ⟨h', e, σ', m', i1, i2, i3, i4, i5, i6, i7⟩ := ih (h + 1) m1 s (by omega) (by omega) x3' (fun t ht ht2 => absurd (ht.symm.trans ha3) (I_nm1 ht2))
      refine ⟨h', e, σ', m', Rn.step ?_ i1, ⟨by omega, i2.2⟩, i3, by omega, x4.tr i5, i6, i7⟩
      show bX6_findLevels_34 (I bl) a3 (I most) (I h) σ = _
      rw [hb0, if_pos ha3, x1]
    · have hn1 : ¬ a3 = -1 := by rw [ht]; exact I_nm1 ht2
      have uniq : ∀ t', a3 = I t' → t' < 59049 → t' = t := fun t' h1 h2 => (I_eq (by omega) (by omega)).mp (h1.symm.trans ht)
      rcases hX.2.bit ht2 (show h < 7 by omega) with ⟨z, e⟩ | ⟨z, e⟩
      · refine ⟨h, .inl (I h, σ), σ, m, (Rn.stop ?_).le (by omega), ⟨Nat.le_refl _, by omega⟩, hX, by omega, FrV.rf, fun y => absurd y hn1, fun t' h1 h2 => by
          rw [uniq t' h1 h2]
          exact hno t ht ht2, Or.inr ⟨t, ht, ht2, z.2, rfl⟩⟩
        show bX6_findLevels_34 (I bl) a3 (I most) (I h) σ = _
        rw [hb0, if_neg hn1, ht, ckB_t (I_in (by omega) (by omega)), I_cl (by omega), e, if_pos rfl]
      · have z' : ¬ lev n tg bl first h t := fun y => z ⟨Nat.le_refl _, y⟩
        obtain ⟨h', e', σ', m', i1, i2, i3, i4, i5, i6, i7⟩ := ih (h + 1) m1 s (by omega) (by omega) x3' (fun t' h1 h2 i hi => by
          rw [uniq t' h1 h2]
          by_cases w : i = h
          · rw [w]; exact z'
          · exact hno t ht ht2 i (by omega))
        refine ⟨h', e', σ', m', Rn.step ?_ i1, ⟨by omega, i2.2⟩, i3, by omega, x4.tr i5, i6, i7⟩
        show bX6_findLevels_34 (I bl) a3 (I most) (I h) σ = _
        rw [hb0, if_neg hn1]
        have e2 : ckB a3 59049 (if (((gA σ 19 a3.toNatClampNeg) >>> (I h &&& 31)) &&& 1) = 1 then some (.inl (.inl (I h, σ))) else fX6_findLevels_67 (I bl) a3 (I most) (I h) 0 σ) = fX6_findLevels_67 (I bl) a3 (I most) (I h) 0 σ := by
          have e3 : vp_in a3 59049 := by rw [ht]; exact I_in (by omega) (by omega)
          have e4 : a3.toNatClampNeg = t := by rw [ht]; exact I_cl (by omega)
          rw [ckB_t e3, e4, e, if_neg (by decide)]
        rw [e2, x1]
/-- the model's search for levels -/
theorem m_lays {first : Nat} (hn : n ≤ 5) (htg : tg < 1024) (hbl : bl < 100) (hf : first < 9 ^ n) {a3 : Int32} (ha3 : goalIs a3 (fun _ => True)) {most : Nat} (hmost : most ≤ 6) (hm : m + 2200000 < 2147483648) (hQ : PM n tg m σ) : ∃ r h σ' m', fX6_findLevels (I first) (I bl) a3 (I most) σ = some (r, σ') ∧ m' ≤ m + 1771470 ∧ h ≤ most ∧ MB n tg m' (fun j v => j ≤ h ∧ lev n tg bl first j v) σ' ∧ FrV σ σ' ∧ (a3 = -1 → h = most ∧ r = -1) ∧ ∀ t, a3 = I t → t < 59049 → (∀ i, i < h → ¬ lev n tg bl first i t) ∧ ((lev n tg bl first h t ∧ r = I h) ∨ (¬ lev n tg bl first h t ∧ h = most ∧ r = -1)) := by
  have hp9 := pow9_le hn (Nat.le_refl n)
  obtain ⟨s, c1, c2, c3⟩ := clear_l (f := fun v : Int32 × St => bX6_findLevels_3 (I first) (I bl) a3 (I most) v.1 v.2) (c := 19) (fun k s hk => by
    show bX6_findLevels_3 (I first) (I bl) a3 (I most) (I k) s = _
    unfold bX6_findLevels_3
    rw [if_neg (show ¬ (59049 : Int32) ≤ I k from fun y => absurd ((I_le (a := 59049) (by omega) (by omega)).mp y) (by omega)), ckB_t (I_in (by omega) (by omega)), letB_t, letB_t, I_cl (by omega), show I k + 1 = I (k + 1) from I_add k 1]) (fun s => rfl) σ
  have fs : FrV σ s := ⟨fun c _ c1 _ _ => c2 c c1, fun k _ _ => (c2 0 (by omega)).1 k⟩
  have f2 : FrV s (pA s 19 first 1) := ⟨fun c _ c2 _ _ => agc.pA c2, fun _ _ _ => rfl⟩
  have fr := fs.tr f2
  have hX0 : MB n tg m (fun j v => j ≤ 0 ∧ lev n tg bl first j v) (pA s 19 first 1) := by
    refine ⟨hQ.keep ((c2 0 (by omega)).1 56) ?_ ?_ ?_, ?_⟩
    · rw [gA_pA_n (by omega)]; exact (c2 2 (by omega)).of
    · rw [gA_pA_n (by omega)]; exact (c2 18 (by omega)).of
    · rw [gA_pA_n (by omega)]; exact (c2 23 (by omega)).of
    · have := BA.first (c := 19) (a := first) (σ := s) (σ' := pA s 19 first 1) c3 (fun w => by rw [gA_upf])
      refine this.cg (fun _ => rfl) (fun i v _ _ => ⟨fun y => ⟨by omega, by rw [y.1]; exact y.2⟩, fun y => ?_⟩)
      have hi : i = 0 := by omega
      subst hi
      exact ⟨rfl, y.2⟩
  have hk6 := kk_6 most hmost
  obtain ⟨h', e, σ', m', i1, i2, i3, i4, i5, i6, i7, i8⟩ := m_lays_loop hn htg hbl hf ha3 hmost most 0 m _ (by omega) (by omega) hX0 (fun t _ _ i hi => absurd hi (by omega))
  have hdef : fX6_findLevels (I first) (I bl) a3 (I most) σ = xX6_findLevels_34 (I bl) a3 (I most) e := by
    unfold fX6_findLevels fX6_findLevels_3
    rw [c1, bn1_s]
    unfold xX6_findLevels_3 fX6_findLevels_24
    rw [ckB_t (I_in (by omega) (by omega)), letB_t, I_cl (by omega)]
    unfold fX6_findLevels_34
    rw [show iter (fun v : Int32 × St => bX6_findLevels_34 (I bl) a3 (I most) v.1 v.2) FU (0, pA s 19 first 1) = _ from i1.fu (by rw [FU_v]; omega), bn1_s]
  rw [hdef]
  rcases i8 with ⟨j1, rfl⟩ | ⟨t, ht, ht2, j1, rfl⟩
  · show ∃ r h σ1 m1, fX6_findLevels_170 a3 (I most) σ' = some (r, σ1) ∧ _
    unfold fX6_findLevels_170
    rcases ha3 with ha3 | ⟨t, ht, ht2, -⟩
    · rw [if_pos ha3]
      exact ⟨-1, h', σ', m', rfl, by omega, i2.2, i3, fr.tr i5, fun _ => ⟨i6 ha3, rfl⟩, fun t ht ht2 => absurd (ht.symm.trans ha3) (I_nm1 ht2)⟩
    · have hn1 : ¬ a3 = -1 := by rw [ht]; exact I_nm1 ht2
      have uniq : ∀ t', a3 = I t' → t' < 59049 → t' = t := fun t' h1 h2 => (I_eq (by omega) (by omega)).mp (h1.symm.trans ht)
      have e3 : vp_in a3 59049 := by rw [ht]; exact I_in (by omega) (by omega)
      have e4 : a3.toNatClampNeg = t := by rw [ht]; exact I_cl (by omega)
      rw [if_neg hn1, ckB_t e3, e4, ← j1]
      rcases i3.2.bit ht2 (show h' < 7 by omega) with ⟨z, e⟩ | ⟨z, e⟩
      · rw [e, if_pos rfl]
        exact ⟨I h', h', σ', m', rfl, by omega, Nat.le_refl _, i3, fr.tr i5, fun y => absurd y hn1, fun t' h1 h2 => by
          rw [uniq t' h1 h2]
          exact ⟨i7 t ht ht2, Or.inl ⟨z.2, rfl⟩⟩⟩
      · have z' : ¬ lev n tg bl first h' t := fun y => z ⟨Nat.le_refl _, y⟩
        rw [e, if_neg (by decide)]
        exact ⟨-1, h', σ', m', rfl, by omega, Nat.le_refl _, i3, fr.tr i5, fun y => absurd y hn1, fun t' h1 h2 => by
          rw [uniq t' h1 h2]
          exact ⟨i7 t ht ht2, Or.inr ⟨z', rfl, rfl⟩⟩⟩
  · have hn1 : ¬ a3 = -1 := by rw [ht]; exact I_nm1 ht2
    have uniq : ∀ t', a3 = I t' → t' < 59049 → t' = t := fun t' h1 h2 => (I_eq (by omega) (by omega)).mp (h1.symm.trans ht)
    exact ⟨I h', h', σ', m', rfl, by omega, i2.2, i3, fr.tr i5, fun y => absurd y hn1, fun t' h1 h2 => by
      rw [uniq t' h1 h2]
      exact ⟨i7 t ht ht2, Or.inl ⟨j1, rfl⟩⟩⟩
end SL
