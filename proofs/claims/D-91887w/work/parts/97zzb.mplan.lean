/-! the plain law: the model's plan -/
set_option maxRecDepth 100000
section MC
variable {n tg bl m h first target H : Nat} {G O : Nat → Nat → Prop} {σ : St}
/-- whether a cell leads on -/
theorem m_choose_p (hn : n ≤ 5) (htg : tg < 1024) (hbl : bl < 100) (h10 : gA σ 2 10 = I bl) (hm : m + 60000 < 2147483648) (hQ : PM n tg m σ) (hG : BA 20 G σ) (hO : BA 21 O σ) (hh : h < 6) (hlt : ∀ v, O h v → v < 9 ^ n) {p : Nat} (hp : p < n) : ∃ b σ' m', fX6_chooseCell_22 (I h) (-1) (I p) 0 σ = some (.inr (b, I (p + 1), σ')) ∧ m' ≤ m + 59049 ∧ PM n tg m' σ' ∧ ((b = I p ∧ ∃ v w, O h v ∧ w ∈ spr n tg bl v p ∧ G (h + 1) w) ∨ (b = -1 ∧ ¬ ∃ v w, O h v ∧ w ∈ spr n tg bl v p ∧ G (h + 1) w)) ∧ FrM σ σ' := by
  have hp9 := pow9_le hn (Nat.le_refl n)
  have key := Rn.inv (f := fun v : Int32 × Int32 × St => bX6_chooseCell_22 (I h) v.1 (I p) v.2.1 v.2.2) (I := fun d st => ∃ r b s, r + d = 59049 ∧ st = (b, I r, s) ∧ (∃ m', m' ≤ m + r ∧ PM n tg m' s) ∧ ((b = I p ∧ ∃ v w, O h v ∧ w ∈ spr n tg bl v p ∧ G (h + 1) w) ∨ (b = -1 ∧ ¬ ∃ v w, v < r ∧ O h v ∧ w ∈ spr n tg bl v p ∧ G (h + 1) w)) ∧ FrM σ s) (P := fun e => (∃ m', m' ≤ m + 59049 ∧ PM n tg m' e.2) ∧ ((e.1 = I p ∧ ∃ v w, O h v ∧ w ∈ spr n tg bl v p ∧ G (h + 1) w) ∨ (e.1 = -1 ∧ ¬ ∃ v w, O h v ∧ w ∈ spr n tg bl v p ∧ G (h + 1) w)) ∧ FrM σ e.2) (fun d st hI => by
    obtain ⟨r, b, s, e1, rfl, ⟨m', e2, e3⟩, e4, e5⟩ := hI
    show (∃ b', bX6_chooseCell_22 (I h) b (I p) (I r) s = _ ∧ _) ∨ ∃ k' a', _ ∧ bX6_chooseCell_22 (I h) b (I p) (I r) s = _ ∧ _
    unfold bX6_chooseCell_22
    by_cases z : 59049 ≤ r
    · left
      rw [if_pos (show (59049 : Int32) ≤ I r from (I_le (a := 59049) (by omega) (by omega)).mpr z)]
      refine ⟨_, rfl, ⟨m', by omega, e3⟩, ?_, e5⟩
      rcases e4 with y | ⟨y1, y2⟩
      · exact Or.inl y
      · exact Or.inr ⟨y1, fun ⟨v, w, u⟩ => y2 ⟨v, w, by have := hlt v u.1; omega, u⟩⟩
    · rw [if_neg (show ¬ (59049 : Int32) ≤ I r from fun y => z ((I_le (a := 59049) (by omega) (by omega)).mp y))]
      rcases e4 with ⟨rfl, y⟩ | ⟨rfl, y2⟩
      · left
        rw [if_neg (I_nm1 (by omega))]
        exact ⟨_, rfl, ⟨m', by omega, e3⟩, Or.inl ⟨rfl, y⟩, e5⟩
      · right
        have hO' : BA 21 O s := hO.cg (fun w => (e5.1 21 (by omega) (by omega) (by omega)).2.1 w) (fun _ _ _ _ => Iff.rfl)
        have hG' : BA 20 G s := hG.cg (fun w => (e5.1 20 (by omega) (by omega) (by omega)).2.1 w) (fun _ _ _ _ => Iff.rfl)
        have h10' : gA s 2 10 = I bl := by rw [(e5.1 2 (by omega) (by omega) (by omega)).2.1]; exact h10
        rw [if_pos rfl, ckB_t (I_in (by omega) (by omega)), I_cl (by omega), show I r + 1 = I (r + 1) from I_add r 1]
        rcases hO'.bit (show r < 59049 by omega) (show h < 7 by omega) with ⟨w1, w2⟩ | ⟨w1, w2⟩
        · obtain ⟨b', s', m2, z1, z2, z3, z4, z5⟩ := m_lead20 (h := h + 1) hn htg hbl h10' (show m' + 1 < 2147483648 by omega) e3 hG' (hlt r w1) hp (by omega)
          rw [w2, if_pos rfl, show I h + 1 = I (h + 1) from I_add h 1, z1, bn2_s, letB_t, letB_t]
          rcases z2 with ⟨rfl, z2⟩ | ⟨rfl, z2⟩
          · rw [if_neg (by decide)]
            obtain ⟨w, t1, t2⟩ := z2
            exact ⟨d - 1, _, by omega, rfl, r + 1, _, s', by omega, rfl, ⟨m2, by omega, z4⟩, Or.inl ⟨rfl, r, w, w1, t1, t2⟩, e5.tr z5⟩
          · rw [if_pos rfl]
            refine ⟨d - 1, _, by omega, rfl, r + 1, _, s', by omega, rfl, ⟨m2, by omega, z4⟩, Or.inr ⟨rfl, fun ⟨v, w, u1, u2, u3, u4⟩ => ?_⟩, e5.tr z5⟩
            by_cases u : v = r
            · exact z2 ⟨w, u ▸ u3, u4⟩
            · exact y2 ⟨v, w, by omega, u2, u3, u4⟩
        · rw [w2, if_neg (by decide), letB_t]
          refine ⟨d - 1, _, by omega, rfl, r + 1, _, s, by omega, rfl, ⟨m', by omega, e3⟩, Or.inr ⟨rfl, fun ⟨v, w, u1, u2, u3⟩ => ?_⟩, e5⟩
          have : v ≠ r := fun u => w1 (u ▸ u2)
          exact y2 ⟨v, w, by omega, u2, u3⟩) 59049 (-1, 0, σ) ⟨0, -1, σ, by omega, rfl, ⟨m, Nat.le_refl _, hQ⟩, Or.inr ⟨rfl, fun ⟨v, w, u, _⟩ => absurd u (by omega)⟩, FrM.rf⟩
  obtain ⟨⟨b, s⟩, k1, ⟨m', k2, k3⟩, k4, k5⟩ := key
  refine ⟨b, s, m', ?_, k2, k3, k4, k5⟩
  unfold fX6_chooseCell_22
  rw [k1.fu (by rw [FU_v]; omega), bn1_s]
  unfold xX6_chooseCell_22
  rw [letB_t, show I p + 1 = I (p + 1) from I_add p 1]
/-- rows that are then on the way -/
theorem m_on_found {L : List Nat} (hF : Fnd 0 58 24 L σ) (hL : ∀ x, x ∈ L → x < 59049) (hl : L.length ≤ 59049) (hG : BA 20 G σ) (hO : BA 21 O σ) (hh : h < 6) {a2 : Int32} {r : Nat} (hQ : PM n tg m σ) : ∃ σ', fX6_chooseCell_129 (I h) a2 (I r) 0 σ = some (.inr (I (r + 1), σ')) ∧ BA 21 (fun j v => O j v ∨ (j = h + 1 ∧ v ∈ L ∧ G (h + 1) v)) σ' ∧ PM n tg m σ' ∧ (∀ d, d ≠ 21 → agc σ σ' d) := by
  have key := Rn.up (f := fun v : Int32 × St => bX6_chooseCell_129 (I h) a2 (I r) v.1 v.2) (I := fun k st => st.1 = I k ∧ BA 21 (fun j v => O j v ∨ (j = h + 1 ∧ v ∈ L.take k ∧ G (h + 1) v)) st.2 ∧ PM n tg m st.2 ∧ (∀ d, d ≠ 21 → agc σ st.2 d)) (P := fun s => BA 21 (fun j v => O j v ∨ (j = h + 1 ∧ v ∈ L ∧ G (h + 1) v)) s ∧ PM n tg m s ∧ (∀ d, d ≠ 21 → agc σ s d)) L.length (fun k st hk hI => ?_) (fun st hI => ?_) (0, σ) ⟨rfl, hO.cg (fun _ => rfl) (fun i v _ _ => ⟨Or.inl, fun y => y.elim id (fun t => absurd t.2.1 (by simp))⟩), hQ, fun _ _ => agc.rf⟩ (by rw [FU_v]; omega)
  · obtain ⟨s, k1, k3, k4, k5⟩ := key
    refine ⟨s, ?_, k3, k4, k5⟩
    unfold fX6_chooseCell_129
    rw [k1, bn1_s]
    unfold xX6_chooseCell_129
    rw [letB_t, show I r + 1 = I (r + 1) from I_add r 1]
  · obtain ⟨i, s⟩ := st
    obtain ⟨e1, e3, e4, e5⟩ := hI
    have e1 : i = I k := e1
    subst e1
    have hg : L[k]? = some L[k] := List.getElem?_eq_getElem hk
    have hw := hL L[k] (List.getElem_mem hk)
    have hF1 : gI s 0 58 = I L.length := by rw [(e5 0 (by omega)).1]; exact hF.1
    have hF2 : gA s 24 k = I L[k] := by rw [(e5 24 (by omega)).2.1]; exact hF.2 k _ hg
    have hG' : BA 20 G s := hG.cg (fun w => (e5 20 (by omega)).2.1 w) (fun _ _ _ _ => Iff.rfl)
    have mt : ∀ x, x ∈ L.take (k + 1) ↔ (x ∈ L.take k ∨ x = L[k]) := fun x => by
      rw [List.take_succ, hg]
      exact List.mem_append.trans (or_congr Iff.rfl List.mem_singleton)
    show ∃ a', bX6_chooseCell_129 (I h) a2 (I r) (I k) s = _ ∧ _
    unfold bX6_chooseCell_129
    rw [hF1, if_neg (fun y => absurd ((I_le (by omega) (by omega)).mp y) (by omega)), ckB_t (I_in (by omega) (by omega)), I_cl (show k < 2147483648 by omega), hF2, letB_t, ckB_t (I_in (by omega) (by omega)), ckB_t (I_in (by omega) (by omega)), ckB_t (I_in (by omega) (by omega)), I_cl (by omega), show I h + 1 = I (h + 1) from I_add h 1, show I k + 1 = I (k + 1) from I_add k 1]
    rcases hG'.bit hw (show h + 1 < 7 by omega) with ⟨w1, w2⟩ | ⟨w1, w2⟩
    · rw [w2, if_pos rfl, ckB_t (I_in (by omega) (by omega)), letB_t, letB_t]
      refine ⟨_, rfl, rfl, (e3.setI (v := L[k]) (show h + 1 < 7 by omega)).cg (fun _ => rfl) (fun i v _ _ => ?_), e4.pA (by omega) (by omega) (by omega), fun d hd => (e5 d hd).tr (agc.pA hd)⟩
      constructor
      · rintro ((y | ⟨y1, y2, y3⟩) | ⟨y1, y2⟩)
        · exact Or.inl y
        · exact Or.inr ⟨y1, (mt _).mpr (Or.inl y2), y3⟩
        · exact Or.inr ⟨y1, (mt _).mpr (Or.inr y2), by rw [y2]; exact w1⟩
      · rintro (y | ⟨y1, y2, y3⟩)
        · exact Or.inl (Or.inl y)
        · rcases (mt _).mp y2 with z | z
          · exact Or.inl (Or.inr ⟨y1, z, y3⟩)
          · exact Or.inr ⟨y1, z⟩
    · rw [w2, if_neg (by decide), ckB_t (I_in (by omega) (by omega)), letB_t, letB_t]
      exact ⟨_, rfl, rfl, (e3.set0 (σ := s) rfl).cg (fun _ => rfl) (fun i v _ _ => or_congr Iff.rfl ⟨fun t => ⟨t.1, (mt _).mpr (Or.inl t.2.1), t.2.2⟩, fun t => ⟨t.1, ((mt _).mp t.2.1).elim id (fun u => absurd (u ▸ t.2.2) w1), t.2.2⟩⟩), e4.pA (by omega) (by omega) (by omega), fun d hd => (e5 d hd).tr (agc.pA hd)⟩
  · obtain ⟨i, s⟩ := st
    obtain ⟨e1, e3, e4, e5⟩ := hI
    have e1 : i = I L.length := e1
    subst e1
    have hF1 : gI s 0 58 = I L.length := by rw [(e5 0 (by omega)).1]; exact hF.1
    refine ⟨s, ?_, e3.cg (fun _ => rfl) (fun i v _ _ => by rw [List.take_length]), e4, e5⟩
    show bX6_chooseCell_129 (I h) a2 (I r) (I L.length) s = _
    unfold bX6_chooseCell_129
    rw [hF1, if_pos ((I_le (by omega) (by omega)).mpr (Nat.le_refl _))]
theorem m_on_rows (hn : n ≤ 5) (htg : tg < 1024) (hbl : bl < 100) (h10 : gA σ 2 10 = I bl) (hm : m + 60000 < 2147483648) (hQ : PM n tg m σ) (hG : BA 20 G σ) (hO : BA 21 O σ) (hh : h < 6) (hlt : ∀ v, O h v → v < 9 ^ n) {p : Nat} (hp : p < n) : ∃ σ' m', fX6_chooseCell_93 (I h) (I p) 0 σ = some σ' ∧ m' ≤ m + 59049 ∧ PM n tg m' σ' ∧ BA 21 (fun j w => O j w ∨ (j = h + 1 ∧ ∃ v, O h v ∧ w ∈ spr n tg bl v p ∧ G (h + 1) w)) σ' ∧ FrT 21 σ σ' := by
  have hp9 := pow9_le hn (Nat.le_refl n)
  have key := Rn.up (f := fun v : Int32 × St => bX6_chooseCell_93 (I h) (I p) v.1 v.2) (I := fun r st => st.1 = I r ∧ (∃ m', m' ≤ m + r ∧ PM n tg m' st.2) ∧ BA 21 (fun j w => O j w ∨ (j = h + 1 ∧ ∃ v, v < r ∧ O h v ∧ w ∈ spr n tg bl v p ∧ G (h + 1) w)) st.2 ∧ FrT 21 σ st.2) (P := fun s => (∃ m', m' ≤ m + 59049 ∧ PM n tg m' s) ∧ BA 21 (fun j w => O j w ∨ (j = h + 1 ∧ ∃ v, O h v ∧ w ∈ spr n tg bl v p ∧ G (h + 1) w)) s ∧ FrT 21 σ s) 59049 (fun r st hr hI => ?_) (fun st hI => ?_) (0, σ) ⟨rfl, ⟨m, Nat.le_refl _, hQ⟩, hO.cg (fun _ => rfl) (fun i v _ _ => ⟨Or.inl, fun y => y.elim id (fun t => by obtain ⟨_, v', t1, _⟩ := t; omega)⟩), FrT.rf⟩ (by rw [FU_v]; omega)
  · obtain ⟨s, k1, ⟨m', k2, k3⟩, k4, k6⟩ := key
    refine ⟨s, m', ?_, k2, k3, k4, k6⟩
    unfold fX6_chooseCell_93
    rw [k1, bn1_s]
    rfl
  · obtain ⟨i, s⟩ := st
    obtain ⟨e1, ⟨m1, hm1, e2⟩, e3, e5⟩ := hI
    have e1 : i = I r := e1
    subst e1
    have hOh : ∀ v, (O h v ∨ (h = h + 1 ∧ ∃ v', v' < r ∧ O h v' ∧ v ∈ spr n tg bl v' p ∧ G (h + 1) v)) ↔ O h v := fun v => ⟨fun y => y.elim id (fun t => by omega), Or.inl⟩
    show ∃ a', bX6_chooseCell_93 (I h) (I p) (I r) s = _ ∧ _
    unfold bX6_chooseCell_93
    rw [if_neg (show ¬ (59049 : Int32) ≤ I r from fun y => absurd ((I_le (a := 59049) (by omega) (by omega)).mp y) (by omega)), ckB_t (I_in (by omega) (by omega)), I_cl (by omega)]
    rcases e3.bit hr (show h < 7 by omega) with ⟨w1, w2⟩ | ⟨w1, w2⟩
    · have w1' := (hOh r).mp w1
      have hr9 := hlt r w1'
      obtain ⟨s1, m2, x1, ⟨x2, x3⟩, x4, x7⟩ := m_spread (bl := bl) hn hp hr9 htg hbl (by omega) e2
      have hG1 : BA 20 G s1 := hG.cg (fun w => by rw [(x7.1 20 (by omega) (by omega) (by omega)).2.1, (e5.1 20 (by omega) (by omega) (by omega) (by omega)).2.1]) (fun _ _ _ _ => Iff.rfl)
      have hO1 := e3.cg (σ' := s1) (fun w => (x7.1 21 (by omega) (by omega) (by omega)).2.1 w) (fun i v _ _ => Iff.rfl)
      obtain ⟨s2, y1, y3, y4, y5⟩ := m_on_found (a2 := I p) (r := r) x4 (fun x hx => by have := spr_lt hr9 hx; omega) (spr_len hn hr9) hG1 hO1 hh x3
      rw [w2, if_pos rfl, ckB_l (by decide), show (10 : Int32).toNatClampNeg = 10 from rfl, (e5.1 2 (by omega) (by omega) (by omega) (by omega)).2.1, h10, x1, bn1_s, y1]
      refine ⟨_, rfl, rfl, ⟨m2, by omega, y4⟩, y3.cg (fun _ => rfl) (fun i v _ _ => ?_), (e5.tr x7.T).tr ⟨fun d _ d2 _ _ => y5 d d2, fun k _ _ => (y5 0 (by omega)).1 k⟩⟩
      constructor
      · rintro ((y | ⟨z1, v', z2, z3⟩) | ⟨z1, z2, z3⟩)
        · exact Or.inl y
        · exact Or.inr ⟨z1, v', by omega, z3⟩
        · exact Or.inr ⟨z1, r, by omega, w1', z2, z3⟩
      · rintro (y | ⟨z1, v', z2, z3, z4, z5⟩)
        · exact Or.inl (Or.inl y)
        · by_cases u : v' = r
          · exact Or.inr ⟨z1, u ▸ z4, z5⟩
          · exact Or.inl (Or.inr ⟨z1, v', by omega, z3, z4, z5⟩)
    · have w1' : ¬ O h r := fun y => w1 ((hOh r).mpr y)
      rw [w2, if_neg (by decide), letB_t, show I r + 1 = I (r + 1) from I_add r 1]
      refine ⟨_, rfl, rfl, ⟨m1, by omega, e2⟩, e3.cg (fun _ => rfl) (fun i v _ _ => or_congr Iff.rfl ⟨fun ⟨t1, v', t2, t3⟩ => ⟨t1, v', by omega, t3⟩, fun ⟨t1, v', t2, t3⟩ => ⟨t1, v', by
        have : v' ≠ r := fun u => w1' (u ▸ t3.1)
        omega, t3⟩⟩), e5⟩
  · obtain ⟨i, s⟩ := st
    obtain ⟨e1, ⟨m1, hm1, e2⟩, e3, e5⟩ := hI
    have e1 : i = I 59049 := e1
    subst e1
    have hv : ∀ v, O h v → v < 59049 := fun v y => by have := hlt v y; omega
    exact ⟨s, rfl, ⟨m1, by omega, e2⟩, e3.cg (fun _ => rfl) (fun i v _ _ => or_congr Iff.rfl ⟨fun ⟨t1, v', t2, t3⟩ => ⟨t1, v', t3⟩, fun ⟨t1, v', t3⟩ => ⟨t1, v', hv v' t3.1, t3⟩⟩), e5⟩
def FrU (σ σ' : St) : Prop := (∀ d, d ≠ 0 → d ≠ 21 → d ≠ 23 → d ≠ 24 → d ≠ 25 → agc σ σ' d) ∧ ∀ k, k ≠ 58 → k ≠ 56 → gI σ' 0 k = gI σ 0 k
theorem FrU.rf {σ : St} : FrU σ σ := ⟨fun _ _ _ _ _ _ => agc.rf, fun _ _ _ => rfl⟩
theorem FrU.tr {a b d : St} (h : FrU a b) (h' : FrU b d) : FrU a d := ⟨fun e e1 e2 e3 e4 e5 => (h.1 e e1 e2 e3 e4 e5).tr (h'.1 e e1 e2 e3 e4 e5), fun k h1 h2 => (h'.2 k h1 h2).trans (h.2 k h1 h2)⟩
theorem FrT.U {a b : St} (h : FrT 21 a b) : FrU a b := ⟨fun d d1 d2 d3 d4 _ => h.1 d d1 d2 d3 d4, h.2⟩
theorem m_choose (hn : n ≤ 5) (htg : tg < 1024) (hbl : bl < 100) (h10 : gA σ 2 10 = I bl) (hf : first < 9 ^ n) (hH : H ≤ 6) (hl : lev n tg bl first H target) (hh : h < H) (hm : m + 400000 < 2147483648) (hQ : PM n tg m σ) (hG : BA 20 (GT n tg bl first target H 0) σ) (hO : BA 21 (ON n tg bl first target H h) σ) : ∃ σ' m', fX6_chooseCell (I h) σ = some σ' ∧ m' ≤ m + 354294 ∧ PM n tg m' σ' ∧ BA 21 (ON n tg bl first target H (h + 1)) σ' ∧ gA σ' 25 h = I (cellC n tg bl first target H h) ∧ (∀ i, i ≠ h → gA σ' 25 i = gA σ 25 i) ∧ FrU σ σ' := by
  let LO : Nat → Prop := fun p => ∃ v w, ON n tg bl first target H h h v ∧ w ∈ spr n tg bl v p ∧ GT n tg bl first target H 0 (h + 1) w
  have hLO : ∀ p, LO p ↔ ∃ v w, onC n tg bl first target H h v ∧ w ∈ spr n tg bl v p ∧ tgo n tg bl first target H (H - (h + 1)) w := fun p => ⟨fun ⟨v, w, a, b, c⟩ => ⟨v, w, a.2, b, c.2.2⟩, fun ⟨v, w, a, b, c⟩ => ⟨v, w, ⟨Nat.le_refl _, a⟩, b, Nat.zero_le _, by omega, c⟩⟩
  obtain ⟨⟨C1, C2⟩, C3⟩ := cellC_ok hl hh
  have hC : LO (cellC n tg bl first target H h) := (hLO _).mpr C2
  have hCn : ∀ p, p < cellC n tg bl first target H h → ¬ LO p := fun p hp y => C3 p hp ((hLO p).mp y)
  have key := Rn.inv (f := fun v : Int32 × Int32 × St => bX6_chooseCell_4 (I h) v.1 v.2.1 v.2.2) (I := fun d st => ∃ p b s m', p + d = n ∧ st = (b, I p, s) ∧ m' ≤ m + kp p ∧ PM n tg m' s ∧ FrM σ s ∧ ((b = -1 ∧ p ≤ cellC n tg bl first target H h) ∨ b = I (cellC n tg bl first target H h))) (P := fun e => (∃ m', m' ≤ m + 295245 ∧ PM n tg m' e.2) ∧ FrM σ e.2 ∧ e.1 = I (cellC n tg bl first target H h)) (fun d st hI => by
    obtain ⟨p, b, s, m', e1, rfl, e2, e3, e4, e6⟩ := hI
    have hkps := kp_s p
    have hkp5 := kp_5 p (by omega)
    show (∃ b', bX6_chooseCell_4 (I h) b (I p) s = _ ∧ _) ∨ ∃ k' a', _ ∧ bX6_chooseCell_4 (I h) b (I p) s = _ ∧ _
    unfold bX6_chooseCell_4
    rw [ckB_l (by decide), show (0 : Int32).toNatClampNeg = 0 from rfl, e3.1.1]
    rcases e6 with ⟨rfl, y1⟩ | rfl
    · right
      rw [if_neg (fun y => absurd ((I_le (by omega) (by omega)).mp y) (by omega)), if_pos rfl]
      have hG' : BA 20 (GT n tg bl first target H 0) s := hG.cg (fun w => (e4.1 20 (by omega) (by omega) (by omega)).2.1 w) (fun _ _ _ _ => Iff.rfl)
      have hO' : BA 21 (ON n tg bl first target H h) s := hO.cg (fun w => (e4.1 21 (by omega) (by omega) (by omega)).2.1 w) (fun _ _ _ _ => Iff.rfl)
      obtain ⟨b', s', m2, z1, z2, z3, z5, z6⟩ := m_choose_p (p := p) hn htg hbl (by rw [(e4.1 2 (by omega) (by omega) (by omega)).2.1]; exact h10) (show m' + 60000 < 2147483648 by omega) e3 hG' hO' (show h < 6 by omega) (fun v hv => onC_lt hf hv.2) (by omega)
      rw [z1]
      refine ⟨d - 1, _, by omega, rfl, p + 1, b', s', m2, by omega, rfl, by omega, z3, e4.tr z6, ?_⟩
      rcases z5 with ⟨rfl, z5⟩ | ⟨rfl, z5⟩
      · right
        rcases Nat.lt_or_ge p (cellC n tg bl first target H h) with u | u
        · exact absurd z5 (hCn p u)
        · rw [show p = cellC n tg bl first target H h by omega]
      · have hpC : p ≠ cellC n tg bl first target H h := fun u => z5 (u ▸ hC)
        exact Or.inl ⟨rfl, by omega⟩
    · left
      by_cases z : I n ≤ I p
      · rw [if_pos z]
        exact ⟨_, rfl, ⟨m', by omega, e3⟩, e4, rfl⟩
      · rw [if_neg z, if_neg (I_nm1 (by omega))]
        exact ⟨_, rfl, ⟨m', by omega, e3⟩, e4, rfl⟩) n (-1, 0, σ) ⟨0, -1, σ, m, by omega, rfl, by show m ≤ m + 0; omega, hQ, FrM.rf, Or.inl ⟨rfl, Nat.zero_le _⟩⟩
  obtain ⟨⟨b, s⟩, k1, ⟨m', k2, k3⟩, k4, k5⟩ := key
  have k5 : b = I (cellC n tg bl first target H h) := k5
  have k3 : PM n tg m' s := k3
  have k4 : FrM σ s := k4
  generalize hs1 : pA s 25 h (I (cellC n tg bl first target H h)) = s1
  have hQ1 : PM n tg m' s1 := by rw [← hs1]; exact k3.pA (by omega) (by omega) (by omega)
  have f1 : ∀ d, d ≠ 0 → d ≠ 23 → d ≠ 24 → d ≠ 25 → agc σ s1 d := fun d d0 d1 d2 d3 => by
    rw [← hs1]
    exact (k4.1 d d0 d1 d2).tr (agc.pA d3)
  obtain ⟨s2, m2, y1, y2, y3, y4, y5⟩ := m_on_rows (σ := s1) (p := cellC n tg bl first target H h) hn htg hbl (by rw [(f1 2 (by omega) (by omega) (by omega) (by omega)).2.1]; exact h10) (show m' + 60000 < 2147483648 by omega) hQ1 (hG.cg (fun w => (f1 20 (by omega) (by omega) (by omega) (by omega)).2.1 w) (fun _ _ _ _ => Iff.rfl)) (hO.cg (fun w => (f1 21 (by omega) (by omega) (by omega) (by omega)).2.1 w) (fun _ _ _ _ => Iff.rfl)) (show h < 6 by omega) (fun v hv => onC_lt hf hv.2) C1
  have f0 : FrU σ s1 := ⟨fun d d0 _ d2 d3 d4 => f1 d d0 d2 d3 d4, fun k h1 h2 => by rw [← hs1]; exact k4.2 k h1 h2⟩
  refine ⟨s2, m2, ?_, by omega, y3, y4.cg (fun _ => rfl) (fun i v _ _ => ON_step hh), ?_, fun i hi => ?_, f0.tr y5.U⟩
  · unfold fX6_chooseCell fX6_chooseCell_4
    rw [k1.fu (by rw [FU_v]; omega), bn1_s]
    unfold xX6_chooseCell_4 fX6_chooseCell_84
    show ckB (I h) 7 (letB (pA s 25 (I h).toNatClampNeg b) (fun σ2 => fX6_chooseCell_93 (I h) b 0 σ2)) = _
    rw [ckB_t (I_in (by omega) (by omega)), letB_t, I_cl (by omega), k5, hs1, y1]
  · rw [(y5.1 25 (by omega) (by omega) (by omega) (by omega)).2.1, ← hs1, gA_upf, upf_s]
  · rw [(y5.1 25 (by omega) (by omega) (by omega) (by omega)).2.1, ← hs1, gA_upf]
    unfold upf
    rw [if_neg hi, (k4.1 25 (by omega) (by omega) (by omega)).2.1]
/-- still leads to the target by the cells -/
theorem m_goal_h (hn : n ≤ 5) (htg : tg < 1024) (hbl : bl < 100) (h10 : gA σ 2 10 = I bl) (hf : first < 9 ^ n) (hH : H ≤ 6) (hl : lev n tg bl first H target) (hh : h < H) (hm : m + 100000 < 2147483648) (hQ : PM n tg m σ) (hO : BA 21 (ON n tg bl first target H H) σ) (hG : BA 22 G σ) (hpl : gA σ 25 h = I (cellC n tg bl first target H h)) {a1 : Int32} : ∃ σ' m', fX6_findPlan_120 a1 (I h) 0 σ = some (.inr (I h - 1, σ')) ∧ m' ≤ m + 59049 ∧ PM n tg m' σ' ∧ BA 22 (fun j v => G j v ∨ (j = h ∧ onC n tg bl first target H h v ∧ ∃ w, w ∈ spr n tg bl v (cellC n tg bl first target H h) ∧ G (h + 1) w)) σ' ∧ FrT 22 σ σ' := by
  have hp9 := pow9_le hn (Nat.le_refl n)
  have hcn := (cellC_ok hl hh).1.1
  have key := Rn.up (f := fun v : Int32 × St => bX6_findPlan_120 a1 (I h) v.1 v.2) (I := fun r st => st.1 = I r ∧ (∃ m', m' ≤ m + r ∧ PM n tg m' st.2) ∧ BA 22 (fun j v => G j v ∨ (j = h ∧ v < r ∧ onC n tg bl first target H h v ∧ ∃ w, w ∈ spr n tg bl v (cellC n tg bl first target H h) ∧ G (h + 1) w)) st.2 ∧ FrT 22 σ st.2) (P := fun s => (∃ m', m' ≤ m + 59049 ∧ PM n tg m' s) ∧ BA 22 (fun j v => G j v ∨ (j = h ∧ onC n tg bl first target H h v ∧ ∃ w, w ∈ spr n tg bl v (cellC n tg bl first target H h) ∧ G (h + 1) w)) s ∧ FrT 22 σ s) 59049 (fun r st hr hI => ?_) (fun st hI => ?_) (0, σ) ⟨rfl, ⟨m, Nat.le_refl _, hQ⟩, hG.cg (fun _ => rfl) (fun i v _ _ => ⟨Or.inl, fun y => y.elim id (fun t => absurd t.2.1 (by omega))⟩), FrT.rf⟩ (by rw [FU_v]; omega)
  · obtain ⟨s, k1, ⟨m', k2, k3⟩, k4, k5⟩ := key
    refine ⟨s, m', ?_, k2, k3, k4, k5⟩
    unfold fX6_findPlan_120
    rw [k1, bn1_s]
    unfold xX6_findPlan_120
    rw [letB_t, I_pred h (by omega)]
  · obtain ⟨i, s⟩ := st
    obtain ⟨e1, ⟨m1, hm1, e2⟩, e3, e4⟩ := hI
    have e1 : i = I r := e1
    subst e1
    have hO' : BA 21 (ON n tg bl first target H H) s := hO.cg (fun w => (e4.1 21 (by omega) (by omega) (by omega) (by omega)).2.1 w) (fun _ _ _ _ => Iff.rfl)
    have hpl' : gA s 25 h = I (cellC n tg bl first target H h) := by rw [(e4.1 25 (by omega) (by omega) (by omega) (by omega)).2.1]; exact hpl
    have hG1 : ∀ w, (G (h + 1) w ∨ (h + 1 = h ∧ w < r ∧ onC n tg bl first target H h w ∧ ∃ w', w' ∈ spr n tg bl w (cellC n tg bl first target H h) ∧ G (h + 1) w')) ↔ G (h + 1) w := fun w => ⟨fun y => y.elim id (fun t => by omega), Or.inl⟩
    show ∃ a', bX6_findPlan_120 a1 (I h) (I r) s = _ ∧ _
    unfold bX6_findPlan_120 fX6_findPlan_178
    rw [if_neg (show ¬ (59049 : Int32) ≤ I r from fun y => absurd ((I_le (a := 59049) (by omega) (by omega)).mp y) (by omega)), ckB_t (I_in (by omega) (by omega)), ckB_t (I_in (by omega) (by omega)), ckB_t (I_in (by omega) (by omega)), ckB_t (I_in (by omega) (by omega)), I_cl (show r < 2147483648 by omega), I_cl (show h < 2147483648 by omega), show I h + 1 = I (h + 1) from I_add h 1]
    simp only [letB]
    rw [show I r + 1 = I (r + 1) from I_add r 1]
    rcases hO'.bit hr (show h < 7 by omega) with ⟨w1, w2⟩ | ⟨w1, w2⟩
    · have hr9 := onC_lt hf w1.2
      obtain ⟨b, s', m2, z1, z2, z3, z4, z5⟩ := m_lead22 (h := h + 1) hn htg hbl (by rw [(e4.1 2 (by omega) (by omega) (by omega) (by omega)).2.1]; exact h10) (show m1 + 1 < 2147483648 by omega) e2 e3 hr9 hcn (by omega)
      have e3' := e3.cg (σ' := s') (fun w => (z5.1 22 (by omega) (by omega) (by omega)).2.1 w) (fun i v _ _ => Iff.rfl)
      have e22 : gA s 22 r = gA s' 22 r := ((z5.1 22 (by omega) (by omega) (by omega)).2.1 r).symm
      rw [w2, if_pos rfl, hpl', z1, bn2_s, e22]
      rcases z2 with ⟨rfl, w, t1, t2⟩ | ⟨rfl, z2⟩
      · rw [if_neg (by decide), ckB_t (I_in (by omega) (by omega))]
        refine ⟨_, rfl, rfl, ⟨m2, by omega, z4.pA (by omega) (by omega) (by omega)⟩, (e3'.setI (v := r) (show h < 7 by omega)).cg (fun _ => rfl) (fun i v _ _ => ?_), (e4.tr z5.T).tr FrT.pA⟩
        constructor
        · rintro ((y | ⟨y1, y2, y3⟩) | ⟨y1, y2⟩)
          · exact Or.inl y
          · exact Or.inr ⟨y1, by omega, y3⟩
          · exact Or.inr ⟨y1, by omega, by rw [y2]; exact w1.2, w, by rw [y2]; exact t1, (hG1 w).mp t2⟩
        · rintro (y | ⟨y1, y2, y3⟩)
          · exact Or.inl (Or.inl y)
          · by_cases u : v = r
            · exact Or.inr ⟨y1, u⟩
            · exact Or.inl (Or.inr ⟨y1, by omega, y3⟩)
      · rw [if_pos rfl, ckB_t (I_in (by omega) (by omega))]
        refine ⟨_, rfl, rfl, ⟨m2, by omega, z4.pA (by omega) (by omega) (by omega)⟩, (e3'.set0 (σ := s') rfl).cg (fun _ => rfl) (fun i v _ _ => or_congr Iff.rfl ⟨fun t => ⟨t.1, by omega, t.2.2⟩, fun t => ⟨t.1, ?_, t.2.2⟩⟩), (e4.tr z5.T).tr FrT.pA⟩
        have : v ≠ r := fun u => by
          subst u
          obtain ⟨w, y1, y2⟩ := t.2.2.2
          exact z2 ⟨w, y1, (hG1 w).mpr y2⟩
        omega
    · have w1' : ¬ onC n tg bl first target H h r := fun y => w1 ⟨by omega, y⟩
      rw [w2, if_neg (by decide)]
      refine ⟨_, rfl, rfl, ⟨m1, by omega, e2.pA (by omega) (by omega) (by omega)⟩, (e3.set0 (σ := s) rfl).cg (fun _ => rfl) (fun i v _ _ => or_congr Iff.rfl ⟨fun t => ⟨t.1, by omega, t.2.2⟩, fun t => ⟨t.1, ?_, t.2.2⟩⟩), e4.tr FrT.pA⟩
      have : v ≠ r := fun u => w1' (u ▸ t.2.2.1)
      omega
  · obtain ⟨i, s⟩ := st
    obtain ⟨e1, ⟨m1, hm1, e2⟩, e3, e4⟩ := hI
    have e1 : i = I 59049 := e1
    subst e1
    exact ⟨s, rfl, ⟨m1, by omega, e2⟩, e3.cg (fun _ => rfl) (fun i v _ hv => or_congr Iff.rfl ⟨fun t => ⟨t.1, t.2.2⟩, fun t => ⟨t.1, hv, t.2⟩⟩), e4⟩
theorem m_goal_l (hn : n ≤ 5) (htg : tg < 1024) (hbl : bl < 100) (hf : first < 9 ^ n) (hH : H ≤ 6) (hl : lev n tg bl first H target) {a1 : Int32} : ∀ (h m : Nat) (σ : St), h ≤ H → m + kk h + 300000 < 2147483648 → gA σ 2 10 = I bl → PM n tg m σ → BA 21 (ON n tg bl first target H H) σ → BA 22 (GG n tg bl first target H h) σ → (∀ i, i < H → gA σ 25 i = I (cellC n tg bl first target H i)) → ∃ σ' m', Rn (fun v : Int32 × St => bX6_findPlan_113 a1 v.1 v.2) (h + 1) (I h - 1, σ) σ' ∧ m' ≤ m + kk h ∧ PM n tg m' σ' ∧ BA 22 (GG n tg bl first target H 0) σ' ∧ FrT 22 σ σ' := by
  intro h
  induction h with
  | zero =>
    intro m σ hh hm h10 hQ hO hG hpl
    refine ⟨σ, m, Rn.stop ?_, by omega, hQ, hG, FrT.rf⟩
    show bX6_findPlan_113 a1 (I 0 - 1) σ = _
    unfold bX6_findPlan_113
    rw [if_pos (by decide)]
  | succ h ih =>
    intro m σ hh hm h10 hQ hO hG hpl
    have hks := kk_s h
    obtain ⟨s, m1, x1, x2, x3, x4, x5⟩ := m_goal_h (h := h) (a1 := a1) hn htg hbl h10 hf hH hl (by omega) (by omega) hQ hO hG (hpl h (by omega))
    have x4' : BA 22 (GG n tg bl first target H h) s := x4.cg (fun _ => rfl) (fun i v _ _ => GG_step (by omega))
    obtain ⟨σ', m', i1, i2, i3, i4, i5⟩ := ih m1 s (by omega) (by omega) (by rw [(x5.1 2 (by omega) (by omega) (by omega) (by omega)).2.1]; exact h10) x3 (hO.cg (fun w => (x5.1 21 (by omega) (by omega) (by omega) (by omega)).2.1 w) (fun _ _ _ _ => Iff.rfl)) x4' (fun i hi => by rw [(x5.1 25 (by omega) (by omega) (by omega) (by omega)).2.1]; exact hpl i hi)
    refine ⟨σ', m', Rn.step (a' := (I h - 1, s)) ?_ i1, by omega, i3, i4, x5.tr i5⟩
    show bX6_findPlan_113 a1 (I (h + 1) - 1) σ = _
    rw [show I (h + 1) - 1 = I h from I_sub (a := h + 1) (b := 1) (by omega) (by omega)]
    unfold bX6_findPlan_113
    rw [if_neg (show ¬ I h < 0 from by rw [lt_ti, I_toInt (by omega), Int32.toInt_zero]; omega), x1]
theorem m_bestr (hG : BA 22 G σ) {L : List Nat} (hF : Fnd 0 58 24 L σ) (hL : ∀ x, x ∈ L → x < 59049) (hl : L.length ≤ 59049) (hh : h < 6) {b : Nat} (hb : b ∈ L ∧ G (h + 1) b) (hb2 : ∀ w, w ∈ L → G (h + 1) w → b ≤ w) : iter (fun v : Int32 × Int32 => bX6_findPlan_239 (I h) v.1 v.2 σ) FU (-1, 0) = some (I b) := by
  have key := Rn.up (f := fun v : Int32 × Int32 => bX6_findPlan_239 (I h) v.1 v.2 σ) (I := fun k v => v.2 = I k ∧ ((v.1 = -1 ∧ ∀ w, w ∈ L.take k → ¬ G (h + 1) w) ∨ ∃ x, v.1 = I x ∧ x ∈ L ∧ G (h + 1) x ∧ ∀ w, w ∈ L.take k → G (h + 1) w → x ≤ w)) (P := fun e => e = I b) L.length (fun k v hk hI => ?_) (fun v hI => ?_) (-1, 0) ⟨rfl, Or.inl ⟨rfl, fun w hw => absurd hw (by simp)⟩⟩ (by rw [FU_v]; omega)
  · obtain ⟨e, k1, k2⟩ := key
    rw [k1, k2]
  · obtain ⟨y, i⟩ := v
    obtain ⟨e1, hx⟩ := hI
    have e1 : i = I k := e1
    subst e1
    have hg : L[k]? = some L[k] := List.getElem?_eq_getElem hk
    have hw := hL L[k] (List.getElem_mem hk)
    have mt : ∀ x, x ∈ L.take (k + 1) ↔ (x ∈ L.take k ∨ x = L[k]) := fun x => by
      rw [List.take_succ, hg]
      exact List.mem_append.trans (or_congr Iff.rfl List.mem_singleton)
    show ∃ a', bX6_findPlan_239 (I h) y (I k) σ = _ ∧ _
    unfold bX6_findPlan_239 fX6_findPlan_288
    rw [hF.1, if_neg (fun y => absurd ((I_le (by omega) (by omega)).mp y) (by omega)), ckB_t (I_in (by omega) (by omega)), I_cl (show k < 2147483648 by omega), hF.2 k _ hg, ckB_t (I_in (by omega) (by omega)), I_cl (by omega), show I h + 1 = I (h + 1) from I_add h 1]
    simp only [letB]
    rw [show I k + 1 = I (k + 1) from I_add k 1, ckB_t (I_in (by omega) (by omega)), ckB_t (I_in (by omega) (by omega))]
    rcases hG.bit hw (show h + 1 < 7 by omega) with ⟨w1, w2⟩ | ⟨w1, w2⟩
    · rw [w2, if_pos rfl]
      rcases hx with ⟨y1, y2⟩ | ⟨x, y1, y2, y3, y4⟩
      · have y1 : y = -1 := y1
        rw [if_pos y1]
        refine ⟨_, rfl, rfl, Or.inr ⟨L[k], rfl, List.getElem_mem hk, w1, fun w hw1 hw2 => ?_⟩⟩
        rcases (mt w).mp hw1 with t | t
        · exact absurd hw2 (y2 w t)
        · omega
      · have y1 : y = I x := y1
        have hxl := hL x y2
        rw [y1, if_neg (I_nm1 hxl)]
        by_cases z : x ≤ L[k]
        · rw [if_pos ((I_le (by omega) (by omega)).mpr z)]
          refine ⟨_, rfl, rfl, Or.inr ⟨x, rfl, y2, y3, fun w hw1 hw2 => ?_⟩⟩
          rcases (mt w).mp hw1 with t | t
          · exact y4 w t hw2
          · omega
        · rw [if_neg (fun t => z ((I_le (by omega) (by omega)).mp t))]
          refine ⟨_, rfl, rfl, Or.inr ⟨L[k], rfl, List.getElem_mem hk, w1, fun w hw1 hw2 => ?_⟩⟩
          rcases (mt w).mp hw1 with t | t
          · have := y4 w t hw2; omega
          · omega
    · rw [w2, if_neg (by decide)]
      refine ⟨_, rfl, rfl, ?_⟩
      rcases hx with ⟨y1, y2⟩ | ⟨x, y1, y2, y3, y4⟩
      · exact Or.inl ⟨y1, fun w hw1 hw2 => ((mt w).mp hw1).elim (fun t => y2 w t hw2) (fun t => w1 (t ▸ hw2))⟩
      · exact Or.inr ⟨x, y1, y2, y3, fun w hw1 hw2 => ((mt w).mp hw1).elim (fun t => y4 w t hw2) (fun t => absurd (t ▸ hw2) w1)⟩
  · obtain ⟨y, i⟩ := v
    obtain ⟨e1, hx⟩ := hI
    have e1 : i = I L.length := e1
    subst e1
    refine ⟨y, ?_, ?_⟩
    · show bX6_findPlan_239 (I h) y (I L.length) σ = _
      unfold bX6_findPlan_239
      rw [hF.1, if_pos ((I_le (by omega) (by omega)).mpr (Nat.le_refl _))]
    · rw [List.take_length] at hx
      rcases hx with ⟨_, y2⟩ | ⟨x, y1, y2, y3, y4⟩
      · exact absurd hb.2 (y2 b hb.1)
      · have h1 := y4 b hb.1 hb.2
        have h2 := hb2 x y2 y3
        have y1 : y = I x := y1
        rw [y1, show x = b by omega]
end MC
