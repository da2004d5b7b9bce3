/-! the plain law: the model finds what leads to the shape -/
set_option maxRecDepth 100000
section MT
variable {n tg bl m h : Nat} {G Lv O : Nat → Nat → Prop} {σ : St}
theorem m_lead20 (hn : n ≤ 5) (htg : tg < 1024) (hbl : bl < 100) (h10 : gA σ 2 10 = I bl) (hm : m + 1 < 2147483648) (hQ : PM n tg m σ) (hG : BA 20 G σ) {v p : Nat} (hv : v < 9 ^ n) (hp : p < n) (hh : h < 7) : ∃ b σ' m', fX6_leads_c20 (I v) (I p) (I h) σ = some (b, σ') ∧ ((b = 1 ∧ ∃ w, w ∈ spr n tg bl v p ∧ G h w) ∨ (b = 0 ∧ ¬ ∃ w, w ∈ spr n tg bl v p ∧ G h w)) ∧ m' ≤ m + 1 ∧ PM n tg m' σ' ∧ FrM σ σ' := by
  obtain ⟨s, m', x1, ⟨x2, x3⟩, x4, x7⟩ := m_spread (bl := bl) hn hp hv htg hbl hm hQ
  have hG' : BA 20 G s := hG.cg (fun w => (x7.1 20 (by omega) (by omega) (by omega)).2.1 w) (fun _ _ _ _ => Iff.rfl)
  have hp9 := pow9_le hn (Nat.le_refl n)
  have hlen : (spr n tg bl v p).length ≤ 59049 := spr_len hn hv
  have key := Rn.up (f := fun a : Int32 × Int32 => bX6_leads_c20_19 (I h) a.1 a.2 s) (I := fun k a => a.2 = I k ∧ ((a.1 = 1 ∧ ∃ w, w ∈ (spr n tg bl v p).take k ∧ G h w) ∨ (a.1 = 0 ∧ ¬ ∃ w, w ∈ (spr n tg bl v p).take k ∧ G h w))) (P := fun e => (e = 1 ∧ ∃ w, w ∈ spr n tg bl v p ∧ G h w) ∨ (e = 0 ∧ ¬ ∃ w, w ∈ spr n tg bl v p ∧ G h w)) (spr n tg bl v p).length (fun k a hk hI => ?_) (fun a hI => ?_) (0, 0) ⟨rfl, Or.inr ⟨rfl, fun ⟨w, h1, _⟩ => absurd h1 (by simp)⟩⟩ (by rw [FU_v]; omega)
  · obtain ⟨e, k1, k2⟩ := key
    refine ⟨e, s, m', ?_, k2, x2, x3, x7⟩
    unfold fX6_leads_c20
    rw [ckB_l (by decide), show (10 : Int32).toNatClampNeg = 10 from rfl, h10, x1, bn1_s]
    unfold fX6_leads_c20_19
    rw [k1, bn1_s]
    unfold xX6_leads_c20_19
    rw [ckZ_t (k2.elim (fun t => Or.inr t.1) (fun t => Or.inl t.1))]
  · obtain ⟨b, i⟩ := a
    obtain ⟨e1, e2⟩ := hI
    have e1 : i = I k := e1
    subst e1
    have hg := List.getElem?_eq_getElem hk
    have hw : (spr n tg bl v p)[k] < 59049 := by have := spr_lt hv (List.getElem_mem hk); omega
    have mt : ∀ x, x ∈ (spr n tg bl v p).take (k + 1) ↔ (x ∈ (spr n tg bl v p).take k ∨ x = (spr n tg bl v p)[k]) := fun x => by
      rw [List.take_succ, hg]
      exact List.mem_append.trans (or_congr Iff.rfl List.mem_singleton)
    show ∃ a', bX6_leads_c20_19 (I h) b (I k) s = _ ∧ _
    unfold bX6_leads_c20_19 fX6_leads_c20_51
    rw [x4.1, if_neg (fun y => absurd ((I_le (by omega) (by omega)).mp y) (by omega)), ckB_t (I_in (by omega) (by omega)), I_cl (by omega), x4.2 k _ hg, ckB_t (I_in (by omega) (by omega)), I_cl (by omega)]
    simp only [letB]
    rw [show I k + 1 = I (k + 1) from I_add k 1]
    rcases e2 with ⟨t1, w, t2, t3⟩ | ⟨t1, t2⟩
    · have t1 : b = 1 := t1
      rw [if_neg (by rw [t1]; decide)]
      exact ⟨_, rfl, rfl, Or.inl ⟨rfl, w, (mt w).mpr (Or.inl t2), t3⟩⟩
    · have t1 : b = 0 := t1
      rw [if_pos t1]
      rcases hG'.bit hw hh with ⟨w1, w2⟩ | ⟨w1, w2⟩
      · rw [w2, if_pos rfl]
        exact ⟨_, rfl, rfl, Or.inl ⟨rfl, _, (mt _).mpr (Or.inr rfl), w1⟩⟩
      · rw [w2, if_neg (by decide)]
        exact ⟨_, rfl, rfl, Or.inr ⟨rfl, fun ⟨w, u1, u2⟩ => ((mt w).mp u1).elim (fun u => t2 ⟨w, u, u2⟩) (fun u => w1 (u ▸ u2))⟩⟩
  · obtain ⟨b, i⟩ := a
    obtain ⟨e1, e2⟩ := hI
    have e1 : i = I (spr n tg bl v p).length := e1
    subst e1
    refine ⟨b, ?_, ?_⟩
    · show bX6_leads_c20_19 (I h) b (I (spr n tg bl v p).length) s = _
      unfold bX6_leads_c20_19
      rw [x4.1, if_pos ((I_le (by omega) (by omega)).mpr (Nat.le_refl _))]
    · rw [List.take_length] at e2
      exact e2
theorem m_lead22 (hn : n ≤ 5) (htg : tg < 1024) (hbl : bl < 100) (h10 : gA σ 2 10 = I bl) (hm : m + 1 < 2147483648) (hQ : PM n tg m σ) (hG : BA 22 G σ) {v p : Nat} (hv : v < 9 ^ n) (hp : p < n) (hh : h < 7) : ∃ b σ' m', fX6_leads_c22 (I v) (I p) (I h) σ = some (b, σ') ∧ ((b = 1 ∧ ∃ w, w ∈ spr n tg bl v p ∧ G h w) ∨ (b = 0 ∧ ¬ ∃ w, w ∈ spr n tg bl v p ∧ G h w)) ∧ m' ≤ m + 1 ∧ PM n tg m' σ' ∧ FrM σ σ' := by
  obtain ⟨s, m', x1, ⟨x2, x3⟩, x4, x7⟩ := m_spread (bl := bl) hn hp hv htg hbl hm hQ
  have hG' : BA 22 G s := hG.cg (fun w => (x7.1 22 (by omega) (by omega) (by omega)).2.1 w) (fun _ _ _ _ => Iff.rfl)
  have hp9 := pow9_le hn (Nat.le_refl n)
  have hlen : (spr n tg bl v p).length ≤ 59049 := spr_len hn hv
  have key := Rn.up (f := fun a : Int32 × Int32 => bX6_leads_c22_19 (I h) a.1 a.2 s) (I := fun k a => a.2 = I k ∧ ((a.1 = 1 ∧ ∃ w, w ∈ (spr n tg bl v p).take k ∧ G h w) ∨ (a.1 = 0 ∧ ¬ ∃ w, w ∈ (spr n tg bl v p).take k ∧ G h w))) (P := fun e => (e = 1 ∧ ∃ w, w ∈ spr n tg bl v p ∧ G h w) ∨ (e = 0 ∧ ¬ ∃ w, w ∈ spr n tg bl v p ∧ G h w)) (spr n tg bl v p).length (fun k a hk hI => ?_) (fun a hI => ?_) (0, 0) ⟨rfl, Or.inr ⟨rfl, fun ⟨w, h1, _⟩ => absurd h1 (by simp)⟩⟩ (by rw [FU_v]; omega)
  · obtain ⟨e, k1, k2⟩ := key
    refine ⟨e, s, m', ?_, k2, x2, x3, x7⟩
    unfold fX6_leads_c22
    rw [ckB_l (by decide), show (10 : Int32).toNatClampNeg = 10 from rfl, h10, x1, bn1_s]
    unfold fX6_leads_c22_19
    rw [k1, bn1_s]
    unfold xX6_leads_c22_19
    rw [ckZ_t (k2.elim (fun t => Or.inr t.1) (fun t => Or.inl t.1))]
  · obtain ⟨b, i⟩ := a
    obtain ⟨e1, e2⟩ := hI
    have e1 : i = I k := e1
    subst e1
    have hg := List.getElem?_eq_getElem hk
    have hw : (spr n tg bl v p)[k] < 59049 := by have := spr_lt hv (List.getElem_mem hk); omega
    have mt : ∀ x, x ∈ (spr n tg bl v p).take (k + 1) ↔ (x ∈ (spr n tg bl v p).take k ∨ x = (spr n tg bl v p)[k]) := fun x => by
      rw [List.take_succ, hg]
      exact List.mem_append.trans (or_congr Iff.rfl List.mem_singleton)
    show ∃ a', bX6_leads_c22_19 (I h) b (I k) s = _ ∧ _
    unfold bX6_leads_c22_19 fX6_leads_c22_51
    rw [x4.1, if_neg (fun y => absurd ((I_le (by omega) (by omega)).mp y) (by omega)), ckB_t (I_in (by omega) (by omega)), I_cl (by omega), x4.2 k _ hg, ckB_t (I_in (by omega) (by omega)), I_cl (by omega)]
    simp only [letB]
    rw [show I k + 1 = I (k + 1) from I_add k 1]
    rcases e2 with ⟨t1, w, t2, t3⟩ | ⟨t1, t2⟩
    · have t1 : b = 1 := t1
      rw [if_neg (by rw [t1]; decide)]
      exact ⟨_, rfl, rfl, Or.inl ⟨rfl, w, (mt w).mpr (Or.inl t2), t3⟩⟩
    · have t1 : b = 0 := t1
      rw [if_pos t1]
      rcases hG'.bit hw hh with ⟨w1, w2⟩ | ⟨w1, w2⟩
      · rw [w2, if_pos rfl]
        exact ⟨_, rfl, rfl, Or.inl ⟨rfl, _, (mt _).mpr (Or.inr rfl), w1⟩⟩
      · rw [w2, if_neg (by decide)]
        exact ⟨_, rfl, rfl, Or.inr ⟨rfl, fun ⟨w, u1, u2⟩ => ((mt w).mp u1).elim (fun u => t2 ⟨w, u, u2⟩) (fun u => w1 (u ▸ u2))⟩⟩
  · obtain ⟨b, i⟩ := a
    obtain ⟨e1, e2⟩ := hI
    have e1 : i = I (spr n tg bl v p).length := e1
    subst e1
    refine ⟨b, ?_, ?_⟩
    · show bX6_leads_c22_19 (I h) b (I (spr n tg bl v p).length) s = _
      unfold bX6_leads_c22_19
      rw [x4.1, if_pos ((I_le (by omega) (by omega)).mpr (Nat.le_refl _))]
    · rw [List.take_length] at e2
      exact e2
theorem BA.setI {c i v : Nat} (hB : BA c G σ) (hi : i < 7) : BA c (fun j w => G j w ∨ (j = i ∧ w = v)) (pA σ c v ((gA σ c v) ||| (1 <<< (I i &&& 31)))) := by
  refine hB.set (v := v) hi (fun t ht e => ?_) (fun w => by rw [gA_upf])
  rw [e]
  exact bit_s t (by omega) i (by omega)
theorem BA.set0 {c v : Nat} {s : St} (hB : BA c G s) (hs : gA s c v = gA σ c v) : BA c G (pA s c v ((gA σ c v) ||| 0)) := by
  refine hB.cg (fun w => ?_) (fun _ _ _ _ => Iff.rfl)
  rw [gA_upf, Int32.or_zero]
  unfold upf
  by_cases q : w = v
  · rw [if_pos q, q, hs]
  · rw [if_neg q]
/-- cells that a pass of the model's touches -/
def FrT (c : Nat) (σ σ' : St) : Prop := (∀ d, d ≠ 0 → d ≠ c → d ≠ 23 → d ≠ 24 → agc σ σ' d) ∧ ∀ k, k ≠ 58 → k ≠ 56 → gI σ' 0 k = gI σ 0 k
theorem FrT.rf {c : Nat} {σ : St} : FrT c σ σ := ⟨fun _ _ _ _ _ => agc.rf, fun _ _ _ => rfl⟩
theorem FrT.tr {c : Nat} {a b d : St} (h : FrT c a b) (h' : FrT c b d) : FrT c a d := ⟨fun e e1 e2 e3 e4 => (h.1 e e1 e2 e3 e4).tr (h'.1 e e1 e2 e3 e4), fun k h1 h2 => (h'.2 k h1 h2).trans (h.2 k h1 h2)⟩
theorem FrM.T {c : Nat} {a b : St} (h : FrM a b) : FrT c a b := ⟨fun d d1 _ d3 d4 => h.1 d d1 d3 d4, h.2⟩
theorem FrT.pA {c k : Nat} {x : Int32} {σ : St} : FrT c σ (pA σ c k x) := ⟨fun _ _ d2 _ _ => agc.pA d2, fun _ _ _ => rfl⟩
theorem PM.pA {c k : Nat} {x : Int32} (hQ : PM n tg m σ) (h2 : c ≠ 2) (h18 : c ≠ 18) (h23 : c ≠ 23) : PM n tg m (pA σ c k x) := hQ.keep rfl (gA_pA_n (Ne.symm h2)) (gA_pA_n (Ne.symm h18)) (gA_pA_n (Ne.symm h23))
theorem m_togo_row (hn : n ≤ 5) (htg : tg < 1024) (hbl : bl < 100) (h10 : gA σ 2 10 = I bl) (hm : m + 6 < 2147483648) (hQ : PM n tg m σ) (hL : BA 19 Lv σ) (hG : BA 20 G σ) (hh : h < 6) (hlt : ∀ v, Lv h v → v < 9 ^ n) {r : Nat} (hr : r < 59049) : ∃ σ' m', fX6_findToGo_72 (I h) (I r) 0 0 σ = some (.inr (I (r + 1), σ')) ∧ m' ≤ m + 5 ∧ PM n tg m' σ' ∧ BA 20 (fun j v => G j v ∨ (j = h ∧ v = r ∧ Lv h r ∧ ∃ p w, p < n ∧ w ∈ spr n tg bl r p ∧ G (h + 1) w)) σ' ∧ FrT 20 σ σ' := by
  have key := Rn.inv (f := fun w : Int32 × Int32 × St => bX6_findToGo_72 (I h) (I r) w.1 w.2.1 w.2.2) (I := fun d st => ∃ p b s m', p + d = n ∧ st = (b, I p, s) ∧ m' ≤ m + p ∧ PM n tg m' s ∧ FrM σ s ∧ ((b = 0 ∧ ∀ p', p' < p → ¬ (Lv h r ∧ ∃ w, w ∈ spr n tg bl r p' ∧ G (h + 1) w)) ∨ (b = 1 ∧ Lv h r ∧ ∃ p' w, p' < n ∧ w ∈ spr n tg bl r p' ∧ G (h + 1) w))) (P := fun e => ∃ m', m' ≤ m + 5 ∧ PM n tg m' e.2 ∧ FrM σ e.2 ∧ ((e.1 = 0 ∧ ¬ (Lv h r ∧ ∃ p w, p < n ∧ w ∈ spr n tg bl r p ∧ G (h + 1) w)) ∨ (e.1 = 1 ∧ Lv h r ∧ ∃ p' w, p' < n ∧ w ∈ spr n tg bl r p' ∧ G (h + 1) w))) (fun d st hI => by
    obtain ⟨p, b, s, m', e1, rfl, e2, e3, e4, e5⟩ := hI
    show (∃ b', bX6_findToGo_72 (I h) (I r) b (I p) s = _ ∧ _) ∨ ∃ k' a', _ ∧ bX6_findToGo_72 (I h) (I r) b (I p) s = _ ∧ _
    unfold bX6_findToGo_72
    rw [ckB_l (by decide), show (0 : Int32).toNatClampNeg = 0 from rfl, e3.1.1]
    have hL' : BA 19 Lv s := hL.cg (fun w => (e4.1 19 (by omega) (by omega) (by omega)).2.1 w) (fun _ _ _ _ => Iff.rfl)
    have hG' : BA 20 G s := hG.cg (fun w => (e4.1 20 (by omega) (by omega) (by omega)).2.1 w) (fun _ _ _ _ => Iff.rfl)
    have h10' : gA s 2 10 = I bl := by rw [(e4.1 2 (by omega) (by omega) (by omega)).2.1]; exact h10
    by_cases z : n ≤ p
    · left
      rw [if_pos ((I_le (by omega) (by omega)).mpr z)]
      refine ⟨_, rfl, m', by omega, e3, e4, ?_⟩
      rcases e5 with ⟨y1, y2⟩ | y
      · exact Or.inl ⟨y1, fun ⟨t1, p', w, t2, t3, t4⟩ => y2 p' (by omega) ⟨t1, w, t3, t4⟩⟩
      · exact Or.inr y
    · rw [if_neg (fun y => z ((I_le (by omega) (by omega)).mp y))]
      rcases e5 with ⟨rfl, y2⟩ | ⟨rfl, y⟩
      · rw [if_pos rfl, ckB_t (I_in (by omega) (by omega)), I_cl (by omega)]
        rcases hL'.bit hr (show h < 7 by omega) with ⟨w1, w2⟩ | ⟨w1, w2⟩
        · right
          obtain ⟨b', s', m2, z1, z2, z3, z4, z5⟩ := m_lead20 (h := h + 1) hn htg hbl h10' (show m' + 1 < 2147483648 by omega) e3 hG' (hlt r w1) (show p < n by omega) (by omega)
          rw [w2, if_pos rfl, show I h + 1 = I (h + 1) from I_add h 1, z1, bn2_s, letB_t, show I p + 1 = I (p + 1) from I_add p 1]
          refine ⟨d - 1, _, by omega, rfl, p + 1, b', s', m2, by omega, rfl, by omega, z4, e4.tr z5, ?_⟩
          rcases z2 with ⟨rfl, z2⟩ | ⟨rfl, z2⟩
          · obtain ⟨w, t1, t2⟩ := z2
            exact Or.inr ⟨rfl, w1, p, w, by omega, t1, t2⟩
          · refine Or.inl ⟨rfl, fun p' hp' t => ?_⟩
            by_cases u : p' = p
            · subst u; exact z2 t.2
            · exact y2 p' (by omega) t
        · left
          rw [w2, if_neg (by decide)]
          exact ⟨_, rfl, m', by omega, e3, e4, Or.inl ⟨rfl, fun t => w1 t.1⟩⟩
      · left
        rw [if_neg (by decide)]
        exact ⟨_, rfl, m', by omega, e3, e4, Or.inr ⟨rfl, y⟩⟩) n (0, 0, σ) ⟨0, 0, σ, m, by omega, rfl, by omega, hQ, FrM.rf, Or.inl ⟨rfl, fun p' hp' => absurd hp' (by omega)⟩⟩
  obtain ⟨⟨b, s⟩, k1, m', k2, k3, k4, k5⟩ := key
  have k3 : PM n tg m' s := k3
  have k4 : FrM σ s := k4
  have hG' : BA 20 G s := hG.cg (fun w => (k4.1 20 (by omega) (by omega) (by omega)).2.1 w) (fun _ _ _ _ => Iff.rfl)
  have hdef : fX6_findToGo_72 (I h) (I r) 0 0 σ = fX6_findToGo_124 (I h) (I r) b s := by
    unfold fX6_findToGo_72
    rw [k1.fu (by rw [FU_v]; omega), bn1_s]
    rfl
  rw [hdef]
  unfold fX6_findToGo_124
  rw [ckB_t (I_in (by omega) (by omega)), ckB_t (I_in (by omega) (by omega)), ckB_t (I_in (by omega) (by omega)), I_cl (by omega)]
  simp only [letB]
  rw [show I r + 1 = I (r + 1) from I_add r 1]
  rcases k5 with ⟨k5, k6⟩ | ⟨k5, k6⟩
  · have k5 : b = 0 := k5
    rw [if_pos k5]
    exact ⟨_, m', rfl, k2, k3.pA (by omega) (by omega) (by omega), (hG'.set0 (σ := s) rfl).cg (fun _ => rfl) (fun i v _ _ => ⟨Or.inl, fun y => y.elim id (fun t => absurd t.2.2 k6)⟩), k4.T.tr FrT.pA⟩
  · have k5 : b = 1 := k5
    rw [if_neg (by rw [k5]; decide)]
    exact ⟨_, m', rfl, k2, k3.pA (by omega) (by omega) (by omega), (hG'.setI (v := r) (show h < 7 by omega)).cg (fun _ => rfl) (fun i v _ _ => ⟨fun y => y.imp id (fun t => ⟨t.1, t.2, k6⟩), fun y => y.imp id (fun t => ⟨t.1, t.2.1⟩)⟩), k4.T.tr FrT.pA⟩
theorem m_togo_h (hn : n ≤ 5) (htg : tg < 1024) (hbl : bl < 100) (h10 : gA σ 2 10 = I bl) (hm : m + 300000 < 2147483648) (hQ : PM n tg m σ) (hL : BA 19 Lv σ) (hG : BA 20 G σ) (hh : h < 6) (hlt : ∀ v, Lv h v → v < 9 ^ n) : ∃ σ' m', fX6_findToGo_60 (I h) 0 σ = some (.inr (I h - 1, σ')) ∧ m' ≤ m + 295245 ∧ PM n tg m' σ' ∧ BA 20 (fun j v => G j v ∨ (j = h ∧ Lv h v ∧ ∃ p w, p < n ∧ w ∈ spr n tg bl v p ∧ G (h + 1) w)) σ' ∧ FrT 20 σ σ' := by
  have key := Rn.up (f := fun v : Int32 × St => bX6_findToGo_60 (I h) v.1 v.2) (I := fun r st => st.1 = I r ∧ (∃ m', m' ≤ m + 5 * r ∧ PM n tg m' st.2) ∧ BA 20 (fun j v => G j v ∨ (j = h ∧ v < r ∧ Lv h v ∧ ∃ p w, p < n ∧ w ∈ spr n tg bl v p ∧ G (h + 1) w)) st.2 ∧ FrT 20 σ st.2) (P := fun σ' => (∃ m', m' ≤ m + 295245 ∧ PM n tg m' σ') ∧ BA 20 (fun j v => G j v ∨ (j = h ∧ Lv h v ∧ ∃ p w, p < n ∧ w ∈ spr n tg bl v p ∧ G (h + 1) w)) σ' ∧ FrT 20 σ σ') 59049 (fun r st hr hI => ?_) (fun st hI => ?_) (0, σ) ⟨rfl, ⟨m, Nat.le_refl _, hQ⟩, hG.cg (fun _ => rfl) (fun i v _ _ => ⟨Or.inl, fun y => y.elim id (fun t => absurd t.2.1 (by omega))⟩), FrT.rf⟩ (by rw [FU_v]; omega)
  · obtain ⟨σ', k1, ⟨m', k2, k3⟩, k5, k6⟩ := key
    refine ⟨σ', m', ?_, k2, k3, k5, k6⟩
    unfold fX6_findToGo_60
    rw [k1, bn1_s]
    unfold xX6_findToGo_60
    rw [letB_t, I_pred h (by omega)]
  · obtain ⟨i, s⟩ := st
    obtain ⟨e1, ⟨m1, hm1, e2⟩, e4, e5⟩ := hI
    have e1 : i = I r := e1
    subst e1
    have hL' : BA 19 Lv s := hL.cg (fun w => (e5.1 19 (by omega) (by omega) (by omega) (by omega)).2.1 w) (fun _ _ _ _ => Iff.rfl)
    obtain ⟨s', m2, x1, x2, x3, x5, x6⟩ := m_togo_row hn htg hbl (by rw [(e5.1 2 (by omega) (by omega) (by omega) (by omega)).2.1]; exact h10) (show m1 + 6 < 2147483648 by omega) e2 hL' e4 hh hlt hr
    refine ⟨(I (r + 1), s'), ?_, rfl, ⟨m2, by omega, x3⟩, x5.cg (fun _ => rfl) (fun i v _ _ => ?_), e5.tr x6⟩
    · show bX6_findToGo_60 (I h) (I r) s = _
      unfold bX6_findToGo_60
      rw [if_neg (show ¬ (59049 : Int32) ≤ I r from fun y => absurd ((I_le (a := 59049) (by omega) (by omega)).mp y) (by omega)), x1]
    · have simp1 : ∀ w, (G (h + 1) w ∨ (h + 1 = h ∧ w < r ∧ Lv h w ∧ ∃ p w', p < n ∧ w' ∈ spr n tg bl w p ∧ G (h + 1) w')) ↔ G (h + 1) w := fun w => ⟨fun y => y.elim id (fun t => by omega), Or.inl⟩
      constructor
      · rintro ((y | ⟨y1, y2, y3⟩) | ⟨y1, y2, y3, p, w, y4, y5, y6⟩)
        · exact Or.inl y
        · exact Or.inr ⟨y1, by omega, y3⟩
        · exact Or.inr ⟨y1, by omega, by rw [y2]; exact y3, p, w, y4, by rw [y2]; exact y5, (simp1 w).mp y6⟩
      · rintro (y | ⟨y1, y2, y3, p, w, y4, y5, y6⟩)
        · exact Or.inl (Or.inl y)
        · by_cases u : v = r
          · subst u
            exact Or.inr ⟨y1, rfl, y3, p, w, y4, y5, (simp1 w).mpr y6⟩
          · exact Or.inl (Or.inr ⟨y1, by omega, y3, p, w, y4, y5, y6⟩)
  · obtain ⟨i, s⟩ := st
    obtain ⟨e1, ⟨m1, hm1, e2⟩, e4, e5⟩ := hI
    have e1 : i = I 59049 := e1
    subst e1
    refine ⟨s, rfl, ⟨m1, by omega, e2⟩, e4.cg (fun _ => rfl) (fun i v _ hv => ⟨fun y => y.imp id (fun t => ⟨t.1, t.2.2⟩), fun y => y.imp id (fun t => ⟨t.1, hv, t.2⟩)⟩), e5⟩
theorem m_togo_l (hn : n ≤ 5) (htg : tg < 1024) (hbl : bl < 100) {first target H : Nat} (hf : first < 9 ^ n) (hH : H ≤ 6) : ∀ (h m : Nat) (σ : St), h ≤ H → m + kk h + 300000 < 2147483648 → gA σ 2 10 = I bl → PM n tg m σ → BA 19 (fun j v => j ≤ H ∧ lev n tg bl first j v) σ → BA 20 (GT n tg bl first target H h) σ → ∃ σ' m', Rn (fun v : Int32 × St => bX6_findToGo_54 v.1 v.2) (h + 1) (I h - 1, σ) σ' ∧ m' ≤ m + kk h ∧ PM n tg m' σ' ∧ BA 20 (GT n tg bl first target H 0) σ' ∧ FrT 20 σ σ' := by
  intro h
  induction h with
  | zero =>
    intro m σ hh hm h10 hQ hL hG
    refine ⟨σ, m, Rn.stop ?_, by omega, hQ, hG, FrT.rf⟩
    show bX6_findToGo_54 (I 0 - 1) σ = _
    unfold bX6_findToGo_54
    rw [if_pos (by decide)]
  | succ h ih =>
    intro m σ hh hm h10 hQ hL hG
    have hks := kk_s h
    obtain ⟨s, m1, x1, x2, x3, x5, x6⟩ := m_togo_h (h := h) hn htg hbl h10 (by omega) hQ hL hG (by omega) (fun v hv => lev_lt hf hv.2)
    have x5' : BA 20 (GT n tg bl first target H h) s := x5.cg (fun _ => rfl) (fun i v _ _ => (or_congr Iff.rfl ⟨fun t => ⟨t.1, t.2.1.2, t.2.2⟩, fun t => ⟨t.1, ⟨by omega, t.2.1⟩, t.2.2⟩⟩).trans (GT_step (by omega)))
    obtain ⟨σ', m', i1, i2, i3, i5, i6⟩ := ih m1 s (by omega) (by omega) (by rw [(x6.1 2 (by omega) (by omega) (by omega) (by omega)).2.1]; exact h10) x3 (hL.cg (fun w => (x6.1 19 (by omega) (by omega) (by omega) (by omega)).2.1 w) (fun _ _ _ _ => Iff.rfl)) x5'
    refine ⟨σ', m', Rn.step (a' := (I h - 1, s)) ?_ i1, by omega, i3, i5, x6.tr i6⟩
    show bX6_findToGo_54 (I (h + 1) - 1) σ = _
    rw [show I (h + 1) - 1 = I h from I_sub (a := h + 1) (b := 1) (by omega) (by omega)]
    unfold bX6_findToGo_54
    rw [if_neg (show ¬ I h < 0 from by rw [lt_ti, I_toInt (by omega), Int32.toInt_zero]; omega), x1]
theorem pow_i : ∀ H, H ≤ 6 → (1 <<< (I H &&& 31) : Int32) = I (0 ||| 2 ^ H) := by decide
theorem m_togo (hn : n ≤ 5) (htg : tg < 1024) (hbl : bl < 100) (h10 : gA σ 2 10 = I bl) {first target H : Nat} (hf : first < 9 ^ n) (ht : target < 59049) (hH : H ≤ 6) (hm : m + 2200000 < 2147483648) (h60 : gI σ 0 60 = I H) (hQ : PM n tg m σ) (hL : BA 19 (fun j v => j ≤ H ∧ lev n tg bl first j v) σ) : ∃ σ' m', fX6_findToGo (I target) σ = some σ' ∧ m' ≤ m + 1771470 ∧ PM n tg m' σ' ∧ BA 20 (GT n tg bl first target H 0) σ' ∧ (∀ v, v < 59049 → gA σ' 21 v = 0) ∧ (∀ v, v < 59049 → gA σ' 22 v = 0) ∧ (∀ d, d ≠ 0 → d ≠ 20 → d ≠ 21 → d ≠ 22 → d ≠ 23 → d ≠ 24 → agc σ σ' d) ∧ ∀ k, k ≠ 58 → k ≠ 56 → gI σ' 0 k = gI σ 0 k := by
  have clr := Rn.up (f := fun v : Int32 × St => bX6_findToGo_2 (I target) v.1 v.2) (I := fun k v => v.1 = I k ∧ (∀ d, d ≠ 20 → d ≠ 21 → d ≠ 22 → agc σ v.2 d) ∧ ∀ i, i < k → gA v.2 20 i = 0 ∧ gA v.2 21 i = 0 ∧ gA v.2 22 i = 0) (P := fun s => (∀ d, d ≠ 20 → d ≠ 21 → d ≠ 22 → agc σ s d) ∧ ∀ i, i < 59049 → gA s 20 i = 0 ∧ gA s 21 i = 0 ∧ gA s 22 i = 0) 59049 (fun k v hk hI => by
    obtain ⟨i, s⟩ := v
    obtain ⟨e, h2, h3⟩ := hI
    have e : i = I k := e
    subst e
    refine ⟨(I (k + 1), pA (pA (pA s 20 k 0) 21 k 0) 22 k 0), ?_, rfl, fun d d1 d2 d3 => (((h2 d d1 d2 d3).tr (agc.pA d1)).tr (agc.pA d2)).tr (agc.pA d3), fun i hi => ?_⟩
    · show bX6_findToGo_2 (I target) (I k) s = _
      unfold bX6_findToGo_2
      rw [if_neg (show ¬ (59049 : Int32) ≤ I k from fun y => absurd ((I_le (a := 59049) (by omega) (by omega)).mp y) (by omega)), ckB_t (I_in (by omega) (by omega)), letB_t, ckB_t (I_in (by omega) (by omega)), letB_t, ckB_t (I_in (by omega) (by omega)), letB_t, letB_t, I_cl (by omega), show I k + 1 = I (k + 1) from I_add k 1]
    · show gA (pA (pA (pA s 20 k 0) 21 k 0) 22 k 0) 20 i = 0 ∧ gA (pA (pA (pA s 20 k 0) 21 k 0) 22 k 0) 21 i = 0 ∧ gA (pA (pA (pA s 20 k 0) 21 k 0) 22 k 0) 22 i = 0
      rw [gA_pA_n (by omega), gA_pA_n (by omega), gA_upf, gA_pA_n (by omega), gA_upf, gA_pA_n (by omega), gA_upf, gA_pA_n (by omega), gA_pA_n (by omega)]
      unfold upf
      by_cases q : i = k
      · rw [if_pos q, if_pos q, if_pos q]
        exact ⟨rfl, rfl, rfl⟩
      · rw [if_neg q, if_neg q, if_neg q]
        exact h3 i (by omega)) (fun v hI => by
    obtain ⟨i, s⟩ := v
    obtain ⟨e, h2, h3⟩ := hI
    have e : i = I 59049 := e
    subst e
    exact ⟨s, rfl, h2, h3⟩) (0, σ) ⟨rfl, fun d _ _ _ => agc.rf, fun i hi => absurd hi (by omega)⟩ (by rw [FU_v]; omega)
  obtain ⟨s, c1, c2, c3⟩ := clr
  have hQs : PM n tg m s := hQ.keep ((c2 0 (by omega) (by omega) (by omega)).1 56) (c2 2 (by omega) (by omega) (by omega)).of (c2 18 (by omega) (by omega) (by omega)).of (c2 23 (by omega) (by omega) (by omega)).of
  have hGs : BA 20 (GT n tg bl first target H H) (pA s 20 target (1 <<< (I H &&& 31))) := ((BA.none (c := 20) (fun v hv => (c3 v hv).1)).set (σ' := pA s 20 target (1 <<< (I H &&& 31))) (v := target) (i := H) (x := (1 <<< (I H &&& 31))) (by omega) (fun t ht' e => by
    have ht0 : I t = 0 := e.symm.trans (c3 target ht).1
    have : t = 0 := (I_eq (b := 0) (by omega) (by omega)).mp ht0
    rw [this]
    exact pow_i H hH) (fun w => by rw [gA_upf])).cg (fun _ => rfl) (fun i v _ _ => GT_H)
  have hk6 := kk_6 H hH
  obtain ⟨σ', m', i1, i2, i3, i5, i6⟩ := m_togo_l (target := target) hn htg hbl hf hH H m _ (Nat.le_refl _) (by omega) (by rw [gA_pA_n (by omega), (c2 2 (by omega) (by omega) (by omega)).2.1]; exact h10) (hQs.pA (c := 20) (by omega) (by omega) (by omega)) (hL.cg (fun w => by rw [gA_pA_n (by omega), (c2 19 (by omega) (by omega) (by omega)).2.1]) (fun _ _ _ _ => Iff.rfl)) hGs
  refine ⟨σ', m', ?_, by omega, i3, i5, fun v hv => ?_, fun v hv => ?_, fun d d0 d1 d2 d3 d4 d5 => ((c2 d d1 d2 d3).tr (agc.pA d1)).tr (i6.1 d d0 d1 d4 d5), fun k k1 k2 => ?_⟩
  · unfold fX6_findToGo fX6_findToGo_2
    rw [c1, bn1_s]
    unfold xX6_findToGo_2 fX6_findToGo_35
    have e60 : gI s 0 60 = I H := ((c2 0 (by omega) (by omega) (by omega)).1 60).trans h60
    rw [ckB_t (I_in (by omega) (by omega)), letB_t, letB_t, gI_pA, e60, I_cl (by omega)]
    unfold fX6_findToGo_54
    rw [i1.fu (by rw [FU_v]; omega), bn1_s]
    rfl
  · rw [(i6.1 21 (by omega) (by omega) (by omega) (by omega)).2.1, gA_pA_n (by omega)]
    exact (c3 v hv).2.1
  · rw [(i6.1 22 (by omega) (by omega) (by omega) (by omega)).2.1, gA_pA_n (by omega)]
    exact (c3 v hv).2.2
  · rw [i6.2 k k1 k2]
    exact (c2 0 (by omega) (by omega) (by omega)).1 k
end MT
