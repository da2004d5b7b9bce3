/-! the plain law: x chooses cells -/
set_option maxRecDepth 100000
section XC
variable {q n tg bl m h : Nat} {G O : Nat → Nat → Prop} {σ : St}
theorem x_on_found (hq : isP q) {L : List Nat} (hF : Fnd q 12 (q + 5) L σ) (hL : ∀ x, x ∈ L → x < 59049) (hl : L.length ≤ 59049) (hG : BA (q + 2) G σ) (hO : BA (q + 3) O σ) (hh : h < 6) {b a2 : Int32} {r : Nat} (hQ : PQ q n tg bl m σ) : ∃ b' σ', fX3_leadsOn_39 q (I h) a2 b (I r) 0 σ = some (.inr (b', I (r + 1), σ')) ∧ (((∃ w, w ∈ L ∧ G (h + 1) w) ∧ b' = 1) ∨ ((¬ ∃ w, w ∈ L ∧ G (h + 1) w) ∧ b' = b)) ∧ BA (q + 3) (fun j v => O j v ∨ (j = h + 1 ∧ v ∈ L ∧ G (h + 1) v)) σ' ∧ PQ q n tg bl m σ' ∧ (∀ d, d ≠ q + 3 → agc σ σ' d) := by
  have hq' : q = 24 ∨ q = 35 := hq
  have key := Rn.up (f := fun v : Int32 × Int32 × St => bX3_leadsOn_39 q (I h) a2 v.1 (I r) v.2.1 v.2.2) (I := fun k st => st.2.1 = I k ∧ (((∃ w, w ∈ L.take k ∧ G (h + 1) w) ∧ st.1 = 1) ∨ ((¬ ∃ w, w ∈ L.take k ∧ G (h + 1) w) ∧ st.1 = b)) ∧ BA (q + 3) (fun j v => O j v ∨ (j = h + 1 ∧ v ∈ L.take k ∧ G (h + 1) v)) st.2.2 ∧ PQ q n tg bl m st.2.2 ∧ (∀ d, d ≠ q + 3 → agc σ st.2.2 d)) (P := fun e => (((∃ w, w ∈ L ∧ G (h + 1) w) ∧ e.1 = 1) ∨ ((¬ ∃ w, w ∈ L ∧ G (h + 1) w) ∧ e.1 = b)) ∧ BA (q + 3) (fun j v => O j v ∨ (j = h + 1 ∧ v ∈ L ∧ G (h + 1) v)) e.2 ∧ PQ q n tg bl m e.2 ∧ (∀ d, d ≠ q + 3 → agc σ e.2 d)) L.length (fun k st hk hI => ?_) (fun st hI => ?_) (b, 0, σ) ⟨rfl, Or.inr ⟨fun ⟨w, h1, _⟩ => absurd h1 (by simp), rfl⟩, hO.cg (fun _ => rfl) (fun i v _ _ => ⟨Or.inl, fun y => y.elim id (fun t => absurd t.2.1 (by simp))⟩), hQ, fun _ _ => agc.rf⟩ (by rw [FU_v]; omega)
  · obtain ⟨⟨b', s⟩, k1, k2, k3, k4, k5⟩ := key
    refine ⟨b', s, ?_, k2, k3, k4, k5⟩
    unfold fX3_leadsOn_39
    rw [k1, bn1_s]
    unfold xX3_leadsOn_39
    rw [letB_t, show I r + 1 = I (r + 1) from I_add r 1]
  · obtain ⟨b1, i, s⟩ := st
    obtain ⟨e1, e2, e3, e4, e5⟩ := hI
    have e1 : i = I k := e1
    subst e1
    have hg : L[k]? = some L[k] := List.getElem?_eq_getElem hk
    have hw := hL L[k] (List.getElem_mem hk)
    have hF1 : gI s q 12 = I L.length := by rw [(e5 q (by omega)).1]; exact hF.1
    have hF2 : gA s (q + 5) k = I L[k] := by rw [(e5 (q + 5) (by omega)).2.1]; exact hF.2 k _ hg
    have hG' : BA (q + 2) G s := hG.cg (fun w => (e5 (q + 2) (by omega)).2.1 w) (fun _ _ _ _ => Iff.rfl)
    show ∃ a', bX3_leadsOn_39 q (I h) a2 b1 (I r) (I k) s = _ ∧ _
    unfold bX3_leadsOn_39
    have mt : ∀ x, x ∈ L.take (k + 1) ↔ (x ∈ L.take k ∨ x = L[k]) := fun x => by
      rw [List.take_succ, hg]
      exact List.mem_append.trans (or_congr Iff.rfl List.mem_singleton)
    rw [hF1, if_neg (fun y => absurd ((I_le (by omega) (by omega)).mp y) (by omega)), ckB_t (I_in (by omega) (by omega)), I_cl (by omega), hF2, show I h + 1 = I (h + 1) from I_add h 1]
    rcases x_is2 hG' hw (show h + 1 < 7 by omega) with ⟨w1, w2⟩ | ⟨w1, w2⟩
    · rw [w2, bn1_s, if_neg (by decide), ckB_t (I_in (by omega) (by omega)), letB_t, ckB_t (I_in (by omega) (by omega)), ckB_t (I_in (by omega) (by omega)), letB_t, letB_t, I_cl (by omega), show I k + 1 = I (k + 1) from I_add k 1]
      refine ⟨_, rfl, rfl, Or.inl ⟨⟨L[k], (mt _).mpr (Or.inr rfl), w1⟩, rfl⟩, (e3.setB (show h + 1 < 7 by omega) hw).cg (fun _ => rfl) (fun i v _ _ => ?_), e4.frC (c := q + 3) (by omega) hq (fun d hd => gA_pA_n hd) (fun _ _ => rfl), fun d hd => (e5 d hd).tr (agc.pA hd)⟩
      constructor
      · rintro ((y | ⟨y1, y2, y3⟩) | ⟨y1, y2⟩)
        · exact Or.inl y
        · exact Or.inr ⟨y1, (mt _).mpr (Or.inl y2), y3⟩
        · exact Or.inr ⟨y1, (mt _).mpr (Or.inr y2), by rw [y2]; exact w1⟩
      · rintro (y | ⟨y1, y2, y3⟩)
        · exact Or.inl (Or.inl y)
        · rcases (mt _).mp y2 with z | z
          · exact Or.inl (Or.inr ⟨y1, z, y3⟩)
          · exact Or.inr ⟨y1, z⟩
    · rw [w2, bn1_s, if_pos rfl, letB_t, show I k + 1 = I (k + 1) from I_add k 1]
      refine ⟨_, rfl, rfl, ?_, e3.cg (fun _ => rfl) (fun i v _ _ => or_congr Iff.rfl ⟨fun t => ⟨t.1, (mt _).mpr (Or.inl t.2.1), t.2.2⟩, fun t => ⟨t.1, ((mt _).mp t.2.1).elim id (fun u => absurd (u ▸ t.2.2) w1), t.2.2⟩⟩), e4, e5⟩
      rcases e2 with ⟨⟨w, y1, y2⟩, y3⟩ | ⟨y1, y2⟩
      · exact Or.inl ⟨⟨w, (mt _).mpr (Or.inl y1), y2⟩, y3⟩
      · exact Or.inr ⟨fun ⟨w, t1, t2⟩ => ((mt _).mp t1).elim (fun u => y1 ⟨w, u, t2⟩) (fun u => w1 (u ▸ t2)), y2⟩
  · obtain ⟨b1, i, s⟩ := st
    obtain ⟨e1, e2, e3, e4, e5⟩ := hI
    have e1 : i = I L.length := e1
    subst e1
    have hF1 : gI s q 12 = I L.length := by rw [(e5 q (by omega)).1]; exact hF.1
    refine ⟨(b1, s), ?_, ?_, ?_, e4, e5⟩
    · show bX3_leadsOn_39 q (I h) a2 b1 (I r) (I L.length) s = _
      unfold bX3_leadsOn_39
      rw [hF1, if_pos ((I_le (by omega) (by omega)).mpr (Nat.le_refl _))]
    · rw [List.take_length] at e2
      exact e2
    · exact e3.cg (fun _ => rfl) (fun i v _ _ => by rw [List.take_length])
theorem x_leadsOn (hq : isP q) (hn : n ≤ 5) (htg : tg < 1024) (hbl : bl < 100) (hm : m + 60000 < 2147483648) (hQ : PQ q n tg bl m σ) (hG : BA (q + 2) G σ) (hO : BA (q + 3) O σ) (hh : h < 6) (hlt : ∀ v, O h v → v < 9 ^ n) {p : Nat} (hp : p < n) : ∃ b σ' m', fX3_leadsOn q (I h) (I p) σ = some (b, σ') ∧ m' ≤ m + 59049 ∧ PQ q n tg bl m' σ' ∧ BA (q + 3) (fun j w => O j w ∨ (j = h + 1 ∧ ∃ v, O h v ∧ w ∈ spr n tg bl v p ∧ G (h + 1) w)) σ' ∧ ((b = 1 ∧ ∃ v w, O h v ∧ w ∈ spr n tg bl v p ∧ G (h + 1) w) ∨ (b = 0 ∧ ¬ ∃ v w, O h v ∧ w ∈ spr n tg bl v p ∧ G (h + 1) w)) ∧ FrC q (q + 3) σ σ' := by
  have hq' : q = 24 ∨ q = 35 := hq
  have hp9 := pow9_le hn (Nat.le_refl n)
  have key := Rn.up (f := fun v : Int32 × Int32 × St => bX3_leadsOn_5 q (I h) (I p) v.1 v.2.1 v.2.2) (I := fun r st => st.2.1 = I r ∧ (∃ m', m' ≤ m + r ∧ PQ q n tg bl m' st.2.2) ∧ BA (q + 3) (fun j w => O j w ∨ (j = h + 1 ∧ ∃ v, v < r ∧ O h v ∧ w ∈ spr n tg bl v p ∧ G (h + 1) w)) st.2.2 ∧ ((st.1 = 1 ∧ ∃ v w, v < r ∧ O h v ∧ w ∈ spr n tg bl v p ∧ G (h + 1) w) ∨ (st.1 = 0 ∧ ¬ ∃ v w, v < r ∧ O h v ∧ w ∈ spr n tg bl v p ∧ G (h + 1) w)) ∧ FrC q (q + 3) σ st.2.2) (P := fun e => (∃ m', m' ≤ m + 59049 ∧ PQ q n tg bl m' e.2) ∧ BA (q + 3) (fun j w => O j w ∨ (j = h + 1 ∧ ∃ v, O h v ∧ w ∈ spr n tg bl v p ∧ G (h + 1) w)) e.2 ∧ ((e.1 = 1 ∧ ∃ v w, O h v ∧ w ∈ spr n tg bl v p ∧ G (h + 1) w) ∨ (e.1 = 0 ∧ ¬ ∃ v w, O h v ∧ w ∈ spr n tg bl v p ∧ G (h + 1) w)) ∧ FrC q (q + 3) σ e.2) 59049 (fun r st hr hI => ?_) (fun st hI => ?_) (0, 0, σ) ⟨rfl, ⟨m, Nat.le_refl _, hQ⟩, hO.cg (fun _ => rfl) (fun i v _ _ => ⟨Or.inl, fun y => y.elim id (fun t => by obtain ⟨_, v', t1, _⟩ := t; omega)⟩), Or.inr ⟨rfl, fun ⟨v, w, t1, _⟩ => absurd t1 (by omega)⟩, FrC.rf⟩ (by rw [FU_v]; omega)
  · obtain ⟨⟨b, s⟩, k1, ⟨m', k2, k3⟩, k4, k5, k6⟩ := key
    refine ⟨b, s, m', ?_, k2, k3, k4, k5, k6⟩
    unfold fX3_leadsOn fX3_leadsOn_5
    rw [k1, bn1_s]
    unfold xX3_leadsOn_5
    rw [ckZ_t (k5.elim (fun t => Or.inr t.1) (fun t => Or.inl t.1))]
  · obtain ⟨b, i, s⟩ := st
    obtain ⟨e1, ⟨m1, hm1, e2⟩, e3, e4, e5⟩ := hI
    have e1 : i = I r := e1
    subst e1
    have hOh : ∀ v, (O h v ∨ (h = h + 1 ∧ ∃ v', v' < r ∧ O h v' ∧ v ∈ spr n tg bl v' p ∧ G (h + 1) v)) ↔ O h v := fun v => ⟨fun y => y.elim id (fun t => by omega), Or.inl⟩
    show ∃ a', bX3_leadsOn_5 q (I h) (I p) b (I r) s = _ ∧ _
    unfold bX3_leadsOn_5
    rw [if_neg (show ¬ (59049 : Int32) ≤ I r from fun y => absurd ((I_le (a := 59049) (by omega) (by omega)).mp y) (by omega))]
    rcases x_is3 e3 hr (show h < 7 by omega) with ⟨w1, w2⟩ | ⟨w1, w2⟩
    · have w1' := (hOh r).mp w1
      have hr9 := hlt r w1'
      obtain ⟨s1, m2, x1, ⟨x2, x3⟩, x4, ⟨x5, x6⟩, x7⟩ := x_leads (q := q) hn hp hr9 htg hbl (by omega) (by omega) e2
      have hG1 : BA (q + 2) G s1 := hG.cg (fun w => by rw [(x7.1 (q + 2) (by omega) (by omega) (by omega) (by omega)).2.1, (e5.1 (q + 2) (by omega) (by omega) (by omega) (by omega) (by omega)).2.1]) (fun _ _ _ _ => Iff.rfl)
      have hO1 := e3.cg (σ' := s1) (fun w => (x7.1 (q + 3) (by omega) (by omega) (by omega) (by omega)).2.1 w) (fun i v _ _ => Iff.rfl)
      obtain ⟨b', s2, y1, y2, y3, y4, y5⟩ := x_on_found (a2 := I p) (b := b) (r := r) hq x4 (fun x hx => by have := x5 x hx; omega) x6 hG1 hO1 hh x3
      rw [w2, bn1_s, if_neg (by decide), x1, bn1_s, y1]
      refine ⟨_, rfl, rfl, ⟨m2, by omega, y4⟩, y3.cg (fun _ => rfl) (fun i v _ _ => ?_), ?_, (e5.tr x7.C).tr ⟨fun d _ d2 _ _ _ => y5 d d2, fun k _ _ => (y5 q (by omega)).1 k⟩⟩
      · constructor
        · rintro ((y | ⟨z1, v', z2, z3⟩) | ⟨z1, z2, z3⟩)
          · exact Or.inl y
          · exact Or.inr ⟨z1, v', by omega, z3⟩
          · exact Or.inr ⟨z1, r, by omega, w1', z2, z3⟩
        · rintro (y | ⟨z1, v', z2, z3, z4, z5⟩)
          · exact Or.inl (Or.inl y)
          · by_cases u : v' = r
            · exact Or.inr ⟨z1, u ▸ z4, z5⟩
            · exact Or.inl (Or.inr ⟨z1, v', by omega, z3, z4, z5⟩)
      · rcases y2 with ⟨⟨w, z1, z2⟩, z3⟩ | ⟨z1, z2⟩
        · exact Or.inl ⟨z3, r, w, by omega, w1', z1, z2⟩
        · rcases e4 with ⟨t1, v, w, t2, t3⟩ | ⟨t1, t2⟩
          · exact Or.inl ⟨z2.trans t1, v, w, by omega, t3⟩
          · refine Or.inr ⟨z2.trans t1, fun ⟨v, w, u1, u2, u3, u4⟩ => ?_⟩
            by_cases u : v = r
            · exact z1 ⟨w, u ▸ u3, u4⟩
            · exact t2 ⟨v, w, by omega, u2, u3, u4⟩
    · have w1' : ¬ O h r := fun y => w1 ((hOh r).mpr y)
      rw [w2, bn1_s, if_pos rfl, letB_t, show I r + 1 = I (r + 1) from I_add r 1]
      refine ⟨_, rfl, rfl, ⟨m1, by omega, e2⟩, e3.cg (fun _ => rfl) (fun i v _ _ => or_congr Iff.rfl ⟨fun ⟨t1, v', t2, t3⟩ => ⟨t1, v', by omega, t3⟩, fun ⟨t1, v', t2, t3⟩ => ⟨t1, v', by
        have : v' ≠ r := fun u => w1' (u ▸ t3.1)
        omega, t3⟩⟩), ?_, e5⟩
      rcases e4 with ⟨t1, v, w, t2, t3⟩ | ⟨t1, t2⟩
      · exact Or.inl ⟨t1, v, w, by omega, t3⟩
      · exact Or.inr ⟨t1, fun ⟨v, w, u1, u2, u3⟩ => by
          have : v ≠ r := fun u => w1' (u ▸ u2)
          exact t2 ⟨v, w, by omega, u2, u3⟩⟩
  · obtain ⟨b, i, s⟩ := st
    obtain ⟨e1, ⟨m1, hm1, e2⟩, e3, e4, e5⟩ := hI
    have e1 : i = I 59049 := e1
    subst e1
    have hv : ∀ v, O h v → v < 59049 := fun v y => by have := hlt v y; omega
    refine ⟨(b, s), rfl, ⟨m1, by omega, e2⟩, e3.cg (fun _ => rfl) (fun i v _ _ => or_congr Iff.rfl ⟨fun ⟨t1, v', t2, t3⟩ => ⟨t1, v', t3⟩, fun ⟨t1, v', t3⟩ => ⟨t1, v', hv v' t3.1, t3⟩⟩), ?_, e5⟩
    rcases e4 with ⟨t1, v, w, t2, t3⟩ | ⟨t1, t2⟩
    · exact Or.inl ⟨t1, v, w, t3⟩
    · exact Or.inr ⟨t1, fun ⟨v, w, u⟩ => t2 ⟨v, w, hv v u.1, u⟩⟩
end XC
/-- on the way, up to level h -/
def ON (n tg bl first target H h : Nat) (j v : Nat) : Prop := j ≤ h ∧ onC n tg bl first target H j v
theorem onC_lt {n tg bl first target H : Nat} (hf : first < 9 ^ n) : ∀ {h v : Nat}, onC n tg bl first target H h v → v < 9 ^ n
  | 0, v, hv => by
    have : v = first := hv
    omega
  | h + 1, w, hv => by
    obtain ⟨-, v, h1, h2⟩ := hv
    exact spr_lt (onC_lt hf h1) h2
theorem ON_step {n tg bl first target H h j w : Nat} (hh : h < H) : (ON n tg bl first target H h j w ∨ (j = h + 1 ∧ ∃ v, ON n tg bl first target H h h v ∧ w ∈ spr n tg bl v (cellC n tg bl first target H h) ∧ GT n tg bl first target H 0 (h + 1) w)) ↔ ON n tg bl first target H (h + 1) j w := by
  unfold ON GT
  constructor
  · rintro (⟨y1, y2⟩ | ⟨rfl, v, ⟨-, y2⟩, y3, -, y4, y5⟩)
    · exact ⟨by omega, y2⟩
    · exact ⟨Nat.le_refl _, y5, v, y2, y3⟩
  · rintro ⟨y1, y2⟩
    by_cases z : j = h + 1
    · subst z
      obtain ⟨z1, v, z2, z3⟩ := y2
      exact Or.inr ⟨rfl, v, ⟨Nat.le_refl _, z2⟩, z3, Nat.zero_le _, by omega, z1⟩
    · exact Or.inl ⟨by omega, y2⟩
def kp : Nat → Nat
  | 0 => 0
  | d + 1 => kp d + 59049
theorem kp_s (d : Nat) : kp (d + 1) = kp d + 59049 := rfl
theorem kp_5 : ∀ d, d ≤ 5 → kp d ≤ 295245 := by decide
section XD
variable {q n tg bl m h first target H : Nat} {σ : St}
def FrD (q : Nat) (σ σ' : St) : Prop := (∀ d, d ≠ q → d ≠ q + 3 → d ≠ q + 4 → d ≠ q + 5 → d ≠ q + 6 → d ≠ q + 9 → agc σ σ' d) ∧ ∀ k, k ≠ 12 → k ≠ 13 → gI σ' q k = gI σ q k
theorem FrD.rf {q : Nat} {σ : St} : FrD q σ σ := ⟨fun _ _ _ _ _ _ _ => agc.rf, fun _ _ _ => rfl⟩
theorem FrD.tr {q : Nat} {a b d : St} (h : FrD q a b) (h' : FrD q b d) : FrD q a d := ⟨fun e e1 e2 e3 e4 e5 e6 => (h.1 e e1 e2 e3 e4 e5 e6).tr (h'.1 e e1 e2 e3 e4 e5 e6), fun k h1 h2 => (h'.2 k h1 h2).trans (h.2 k h1 h2)⟩
theorem FrC.D {q : Nat} {a b : St} (h : FrC q (q + 3) a b) : FrD q a b := ⟨fun d d1 d2 d3 d4 d5 _ => h.1 d d1 d2 d3 d4 d5, h.2⟩
theorem x_choose (hq : isP q) (hn : n ≤ 5) (htg : tg < 1024) (hbl : bl < 100) (hf : first < 9 ^ n) (hH : H ≤ 6) (hl : lev n tg bl first H target) (hh : h < H) (hm : m + 400000 < 2147483648) (hQ : PQ q n tg bl m σ) (hG : BA (q + 2) (GT n tg bl first target H 0) σ) (hO : BA (q + 3) (ON n tg bl first target H h) σ) : ∃ σ' m', fX3_chooses_43 q (I h) 0 0 σ = some (.inr (I (h + 1), σ')) ∧ m' ≤ m + 295245 ∧ PQ q n tg bl m' σ' ∧ BA (q + 2) (GT n tg bl first target H 0) σ' ∧ BA (q + 3) (ON n tg bl first target H (h + 1)) σ' ∧ gA σ' (q + 9) h = I (cellC n tg bl first target H h) ∧ (∀ i, i ≠ h → gA σ' (q + 9) i = gA σ (q + 9) i) ∧ FrD q σ σ' := by
  have hq' : q = 24 ∨ q = 35 := hq
  let LO : Nat → Prop := fun p => ∃ v w, ON n tg bl first target H h h v ∧ w ∈ spr n tg bl v p ∧ GT n tg bl first target H 0 (h + 1) w
  have hLO : ∀ p, LO p ↔ ∃ v w, onC n tg bl first target H h v ∧ w ∈ spr n tg bl v p ∧ tgo n tg bl first target H (H - (h + 1)) w := fun p => ⟨fun ⟨v, w, a, b, c⟩ => ⟨v, w, a.2, b, c.2.2⟩, fun ⟨v, w, a, b, c⟩ => ⟨v, w, ⟨Nat.le_refl _, a⟩, b, Nat.zero_le _, by omega, c⟩⟩
  obtain ⟨⟨C1, C2⟩, C3⟩ := cellC_ok hl hh
  have hC : LO (cellC n tg bl first target H h) := (hLO _).mpr C2
  have hCn : ∀ p, p < cellC n tg bl first target H h → ¬ LO p := fun p hp y => C3 p hp ((hLO p).mp y)
  have key := Rn.inv (f := fun v : Int32 × Int32 × St => bX3_chooses_43 q (I h) v.1 v.2.1 v.2.2) (I := fun d st => ∃ p b s m', p + d = n ∧ st = (b, I p, s) ∧ m' ≤ m + kp p ∧ PQ q n tg bl m' s ∧ FrD q σ s ∧ (∀ i, i ≠ h → gA s (q + 9) i = gA σ (q + 9) i) ∧ ((b = 0 ∧ p ≤ cellC n tg bl first target H h ∧ BA (q + 3) (ON n tg bl first target H h) s) ∨ (b = 1 ∧ gA s (q + 9) h = I (cellC n tg bl first target H h) ∧ BA (q + 3) (ON n tg bl first target H (h + 1)) s))) (P := fun s => (∃ m', m' ≤ m + 295245 ∧ PQ q n tg bl m' s) ∧ FrD q σ s ∧ (∀ i, i ≠ h → gA s (q + 9) i = gA σ (q + 9) i) ∧ gA s (q + 9) h = I (cellC n tg bl first target H h) ∧ BA (q + 3) (ON n tg bl first target H (h + 1)) s) (fun d st hI => by
    obtain ⟨p, b, s, m', e1, rfl, e2, e3, e4, e5, e6⟩ := hI
    have hkps := kp_s p
    have hkp5 := kp_5 p (by omega)
    show (∃ b', bX3_chooses_43 q (I h) b (I p) s = _ ∧ _) ∨ ∃ k' a', _ ∧ bX3_chooses_43 q (I h) b (I p) s = _ ∧ _
    unfold bX3_chooses_43
    rw [e3.1.1]
    rcases e6 with ⟨rfl, y1, y2⟩ | ⟨rfl, y1, y2⟩
    · right
      rw [if_neg (fun y => absurd ((I_le (by omega) (by omega)).mp y) (by omega)), if_pos rfl]
      have hG' : BA (q + 2) (GT n tg bl first target H 0) s := hG.cg (fun w => (e4.1 (q + 2) (by omega) (by omega) (by omega) (by omega) (by omega) (by omega)).2.1 w) (fun _ _ _ _ => Iff.rfl)
      obtain ⟨b', s', m2, z1, z2, z3, z4, z5, z6⟩ := x_leadsOn (p := p) hq hn htg hbl (show m' + 60000 < 2147483648 by omega) e3 hG' y2 (show h < 6 by omega) (fun v hv => onC_lt hf hv.2) (by omega)
      rw [z1, bn2_s, ckB_t (I_in (by omega) (by omega)), letB_t, letB_t, I_cl (by omega), show I p + 1 = I (p + 1) from I_add p 1]
      refine ⟨d - 1, _, by omega, rfl, p + 1, b', _, m2, by omega, rfl, by omega, z3.frC (c := q + 9) (by omega) hq (fun d hd => gA_pA_n hd) (fun _ _ => rfl), (e4.tr z6.D).tr ⟨fun c _ _ _ _ _ c6 => agc.pA c6, fun _ _ _ => rfl⟩, fun i hi => ?_, ?_⟩
      · rw [gA_upf]
        unfold upf
        rw [if_neg hi, (z6.1 (q + 9) (by omega) (by omega) (by omega) (by omega) (by omega)).2.1]
        exact e5 i hi
      · rcases z5 with ⟨rfl, z5⟩ | ⟨rfl, z5⟩
        · have hpC : p = cellC n tg bl first target H h := by
            rcases Nat.lt_or_ge p (cellC n tg bl first target H h) with u | u
            · exact absurd z5 (hCn p u)
            · omega
          refine Or.inr ⟨rfl, ?_, z4.cg (fun w => by rw [gA_pA_n (by omega)]) (fun i v _ _ => by rw [hpC]; exact ON_step hh)⟩
          rw [gA_upf, upf_s, hpC]
        · have hpC : p ≠ cellC n tg bl first target H h := fun u => z5 (u ▸ hC)
          exact Or.inl ⟨rfl, by omega, z4.cg (fun w => by rw [gA_pA_n (by omega)]) (fun i v _ _ => ⟨fun t => t.elim id (fun ⟨_, v', t1, t2, t3⟩ => absurd ⟨v', v, t1, t2, t3⟩ z5), Or.inl⟩)⟩
    · left
      by_cases z : I n ≤ I p
      · rw [if_pos z]
        exact ⟨_, rfl, ⟨m', by omega, e3⟩, e4, e5, y1, y2⟩
      · rw [if_neg z, if_neg (by decide)]
        exact ⟨_, rfl, ⟨m', by omega, e3⟩, e4, e5, y1, y2⟩) n (0, 0, σ) ⟨0, 0, σ, m, by omega, rfl, by omega, hQ, FrD.rf, fun _ _ => rfl, Or.inl ⟨rfl, Nat.zero_le _, hO⟩⟩
  obtain ⟨s, k1, ⟨m', k2, k3⟩, k4, k5, k6, k7⟩ := key
  refine ⟨s, m', ?_, k2, k3, hG.cg (fun w => (k4.1 (q + 2) (by omega) (by omega) (by omega) (by omega) (by omega) (by omega)).2.1 w) (fun _ _ _ _ => Iff.rfl), k7, k6, k5, k4⟩
  unfold fX3_chooses_43
  rw [k1.fu (by rw [FU_v]; omega), bn1_s]
  unfold xX3_chooses_43
  rw [letB_t, show I h + 1 = I (h + 1) from I_add h 1]
theorem x_chooses (hq : isP q) (hn : n ≤ 5) (htg : tg < 1024) (hbl : bl < 100) (hf : first < 9 ^ n) (hH : H ≤ 6) (hl : lev n tg bl first H target) (hm : m + 2200000 < 2147483648) (h15 : gI σ q 15 = I H) (hQ : PQ q n tg bl m σ) (hG : BA (q + 2) (GT n tg bl first target H 0) σ) : ∃ σ' m', fX3_chooses q (I first) σ = some σ' ∧ m' ≤ m + 1771470 ∧ PQ q n tg bl m' σ' ∧ BA (q + 3) (ON n tg bl first target H H) σ' ∧ (∀ i, i < H → gA σ' (q + 9) i = I (cellC n tg bl first target H i)) ∧ FrD q σ σ' := by
  have hq' : q = 24 ∨ q = 35 := hq
  have hp9 := pow9_le hn (Nat.le_refl n)
  obtain ⟨s, c1, c2, c3⟩ := clear_l (f := fun v : Int32 × St => bX3_chooses_2 q (I first) v.1 v.2) (c := q + 3) (fun k s hk => by
    show bX3_chooses_2 q (I first) (I k) s = _
    unfold bX3_chooses_2
    rw [if_neg (show ¬ (59049 : Int32) ≤ I k from fun y => absurd ((I_le (a := 59049) (by omega) (by omega)).mp y) (by omega)), ckB_t (I_in (by omega) (by omega)), letB_t, letB_t, I_cl (by omega), show I k + 1 = I (k + 1) from I_add k 1, vp_nar_byte]
    rfl) (fun s => rfl) σ
  have fs : FrD q σ s := ⟨fun d _ d2 _ _ _ _ => c2 d d2, fun k _ _ => (c2 q (by omega)).1 k⟩
  have hQs : PQ q n tg bl m s := hQ.keep (fun k _ => (c2 q (by omega)).1 k) (c2 _ (by omega)).of ((c2 2 (by omega)).1 6) (c2 _ (by omega)).of
  have hO0 : BA (q + 3) (ON n tg bl first target H 0) (pA s (q + 3) first (vp_nar .byte 1)) := (BA.first (c := q + 3) (a := first) (σ := s) (σ' := pA s (q + 3) first (vp_nar .byte 1)) c3 (fun w => by rw [gA_upf, vp_nar_byte]; rfl)).cg (fun _ => rfl) (fun i v _ _ => ⟨fun y => ⟨by omega, by rw [y.1]; exact y.2⟩, fun y => by
    have hi : i = 0 := by have := y.1; omega
    subst hi
    exact ⟨rfl, y.2⟩⟩)
  have hG0 : BA (q + 2) (GT n tg bl first target H 0) (pA s (q + 3) first (vp_nar .byte 1)) := hG.cg (fun w => by rw [gA_pA_n (by omega), (c2 (q + 2) (by omega)).2.1]) (fun _ _ _ _ => Iff.rfl)
  have hQ0 : PQ q n tg bl m (pA s (q + 3) first (vp_nar .byte 1)) := hQs.frC (c := q + 3) (by omega) hq (fun d hd => gA_pA_n hd) (fun _ _ => rfl)
  have f0 : FrD q σ (pA s (q + 3) first (vp_nar .byte 1)) := fs.tr ⟨fun d _ d2 _ _ _ _ => agc.pA d2, fun _ _ _ => rfl⟩
  have hk6 := kk_6 H hH
  have key := Rn.up (f := fun v : Int32 × St => bX3_chooses_30 q v.1 v.2) (I := fun h st => st.1 = I h ∧ (∃ m', m' ≤ m + kk h ∧ PQ q n tg bl m' st.2) ∧ BA (q + 2) (GT n tg bl first target H 0) st.2 ∧ BA (q + 3) (ON n tg bl first target H h) st.2 ∧ (∀ i, i < h → gA st.2 (q + 9) i = I (cellC n tg bl first target H i)) ∧ FrD q σ st.2) (P := fun σ' => (∃ m', m' ≤ m + kk H ∧ PQ q n tg bl m' σ') ∧ BA (q + 3) (ON n tg bl first target H H) σ' ∧ (∀ i, i < H → gA σ' (q + 9) i = I (cellC n tg bl first target H i)) ∧ FrD q σ σ') H (fun h st hh hI => ?_) (fun st hI => ?_) (0, pA s (q + 3) first (vp_nar .byte 1)) ⟨rfl, ⟨m, Nat.le_add_right _ _, hQ0⟩, hG0, hO0, fun i hi => absurd hi (by omega), f0⟩ (by rw [FU_v]; omega)
  · obtain ⟨σ', k1, ⟨m', k2, k3⟩, k4, k5, k6⟩ := key
    refine ⟨σ', m', ?_, by omega, k3, k4, k5, k6⟩
    unfold fX3_chooses fX3_chooses_2
    rw [c1, bn1_s]
    unfold xX3_chooses_2 fX3_chooses_21
    rw [ckB_t (I_in (by omega) (by omega)), letB_t, I_cl (by omega)]
    unfold fX3_chooses_30
    rw [k1, bn1_s]
    rfl
  · obtain ⟨i, s1⟩ := st
    obtain ⟨e1, ⟨m1, hm1, e2⟩, e3, e4, e5, e6⟩ := hI
    have e1 : i = I h := e1
    subst e1
    have hks := kk_s h
    have hkh := kk_6 h (by omega)
    obtain ⟨s', m2, x1, x2, x3, x4, x5, x6, x7, x8⟩ := x_choose hq hn htg hbl hf hH hl hh (show m1 + 400000 < 2147483648 by omega) e2 e3 e4
    refine ⟨(I (h + 1), s'), ?_, rfl, ⟨m2, by omega, x3⟩, x4, x5, fun i hi => ?_, e6.tr x8⟩
    · show bX3_chooses_30 q (I h) s1 = _
      unfold bX3_chooses_30
      rw [e6.2 15 (by omega) (by omega), h15, if_neg (fun y => absurd ((I_le (by omega) (by omega)).mp y) (by omega)), x1]
    · by_cases u : i = h
      · rw [u]; exact x6
      · rw [x7 i u]; exact e5 i (by omega)
  · obtain ⟨i, s1⟩ := st
    obtain ⟨e1, e2, e3, e4, e5, e6⟩ := hI
    have e1 : i = I H := e1
    subst e1
    refine ⟨s1, ?_, e2, e4, e5, e6⟩
    show bX3_chooses_30 q (I H) s1 = _
    unfold bX3_chooses_30
    rw [e6.2 15 (by omega) (by omega), h15, if_pos ((I_le (by omega) (by omega)).mpr (Nat.le_refl H))]
end XD
