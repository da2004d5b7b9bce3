/-! the plain law: x's layers, all; the model's levels -/
set_option maxRecDepth 100000
def XB (q n tg bl first m h : Nat) (σ : St) : Prop := PQ q n tg bl m σ ∧ BA (q + 1) (fun j v => j ≤ h ∧ lev n tg bl first j v) σ ∧ gI σ q 16 = I h ∧ ∀ i, i ≤ h → gA σ (q + 8) i = I (cnt (lev n tg bl first i) 59049)
def goalIs (a2 : Int32) (P : Nat → Prop) : Prop := a2 = -1 ∨ ∃ t : Nat, a2 = I t ∧ t < 59049 ∧ P t
theorem I_nm1 {t : Nat} (h : t < 59049) : ¬ I t = (-1 : Int32) := fun y => by
  have y2 := congrArg Int32.toInt y
  rw [I_toInt (by omega), (by decide : (-1 : Int32).toInt = -1)] at y2
  omega
def kk : Nat → Nat
  | 0 => 0
  | d + 1 => kk d + 295245
theorem kk_s (d : Nat) : kk (d + 1) = kk d + 295245 := rfl
theorem kk_6 : ∀ d, d ≤ 6 → kk d ≤ 1771470 := by decide
section RL
variable {q n tg bl first : Nat}
theorem lev_P {h j v : Nat} : ((j ≤ h ∧ lev n tg bl first j v) ∨ (j = h + 1 ∧ ∃ r p, (h ≤ h ∧ lev n tg bl first h r) ∧ p < n ∧ v ∈ spr n tg bl r p)) ↔ (j ≤ h + 1 ∧ lev n tg bl first j v) := by
  constructor
  · rintro (⟨y1, y2⟩ | ⟨rfl, r, p, ⟨-, y2⟩, y3, y4⟩)
    · exact ⟨by omega, y2⟩
    · exact ⟨Nat.le_refl _, r, p, y2, y3, y4⟩
  · rintro ⟨y1, y2⟩
    by_cases z : j ≤ h
    · exact Or.inl ⟨z, y2⟩
    · have : j = h + 1 := by omega
      subst this
      obtain ⟨r, p, y3, y4, y5⟩ := y2
      exact Or.inr ⟨rfl, r, p, ⟨Nat.le_refl _, y3⟩, y4, y5⟩
theorem x_lay_step (hq : isP q) (hn : n ≤ 5) (htg : tg < 1024) (hbl : bl < 100) (hf : first < 9 ^ n) {h m : Nat} {σ : St} (hh : h < 6) (hm : m + 300000 < 2147483648) (hX : XB q n tg bl first m h σ) {a2 a3 : Int32} : ∃ σ' m', fX3_lays_72 q a2 a3 σ = some (.inr σ') ∧ m' ≤ m + 295245 ∧ XB q n tg bl first m' (h + 1) σ' ∧ FrL q σ σ' := by
  have hq' : q = 24 ∨ q = 35 := hq
  obtain ⟨h1, h2, h3, h4⟩ := hX
  unfold fX3_lays_72
  rw [h3, show I h + 1 = I (h + 1) from I_add h 1, ckB_t (I_in (by omega) (by omega)), letB_t, I_cl (by omega)]
  have f0 : FrL q σ (pA σ (q + 8) (h + 1) 0) := ⟨fun c _ _ _ _ _ c6 => agc.pA c6, fun k _ _ _ => rfl⟩
  have hXL : XL q n tg bl m (fun j v => j ≤ h ∧ lev n tg bl first j v) h (pA σ (q + 8) (h + 1) 0) := by
    refine ⟨h1.keep (fun _ _ => rfl) (gA_pA_n (by omega)) rfl (gA_pA_n (by omega)), h2.cg (fun v => by rw [gA_pA_n (by omega)]) (fun _ _ _ _ => Iff.rfl), h3, fun i hi hi2 => ?_⟩
    rw [gA_upf]
    unfold upf
    by_cases y : i = h + 1
    · have e : cnt (fun v => i ≤ h ∧ lev n tg bl first i v) 59049 = 0 := cnt_none (fun v _ t => by omega)
      rw [if_pos y]
      exact (congrArg I e).symm
    · have e : cnt (lev n tg bl first i) 59049 = cnt (fun v => i ≤ h ∧ lev n tg bl first i v) 59049 := cnt_cg (fun v _ => ⟨fun t => ⟨by omega, t⟩, fun t => t.2⟩)
      rw [if_neg y, h4 i (by omega)]
      exact congrArg I e
  obtain ⟨s, m', x1, x2, x3, x4⟩ := hXL.level (a2 := a2) (a3 := a3) hq hh hn htg hbl hm (fun v hv => lev_lt hf hv.2)
  refine ⟨_, m', x1, x2, ⟨x3.1.keep (fun k hk => by rw [gI_pI, if_neg (by omega)]) rfl (by rw [gI_pI, if_neg (by omega)]) rfl, x3.2.1.cg (fun _ => rfl) (fun i v _ _ => lev_P), by rw [gI_pI, if_pos ⟨rfl, rfl⟩], fun i hi => ?_⟩, (f0.tr x4).tr ⟨fun c c1 _ _ _ _ _ => agc.pI c1, fun k _ _ k3 => by rw [gI_pI, if_neg (fun y => k3 y.2)]⟩⟩
  have e : cnt ((fun j v => (j ≤ h ∧ lev n tg bl first j v) ∨ (j = h + 1 ∧ ∃ r p, (h ≤ h ∧ lev n tg bl first h r) ∧ p < n ∧ v ∈ spr n tg bl r p)) i) 59049 = cnt (lev n tg bl first i) 59049 := cnt_cg (fun v _ => lev_P.trans ⟨fun t => t.2, fun t => ⟨hi, t⟩⟩)
  have := x3.2.2.2 i (by omega) hi
  exact this.trans (congrArg I e)
theorem x_lays_loop (hq : isP q) (hn : n ≤ 5) (htg : tg < 1024) (hbl : bl < 100) (hf : first < 9 ^ n) {a2 : Int32} (ha2 : goalIs a2 (fun _ => True)) {most : Nat} (hmost : most ≤ 6) : ∀ (d h m : Nat) (σ : St), h + d = most → m + kk d + 300000 < 2147483648 → XB q n tg bl first m h σ → (∀ t, a2 = I t → t < 59049 → ∀ i, i < h → ¬ lev n tg bl first i t) → ∃ h' σ' m', Rn (fun v : St => bX3_lays_43 q a2 (I most) v) (d + 1) σ σ' ∧ (h ≤ h' ∧ h' ≤ most) ∧ XB q n tg bl first m' h' σ' ∧ m' ≤ m + kk d ∧ FrL q σ σ' ∧ (a2 = -1 → h' = most) ∧ ∀ t, a2 = I t → t < 59049 → (∀ i, i < h' → ¬ lev n tg bl first i t) ∧ (h' = most ∨ lev n tg bl first h' t) := by
  intro d
  induction d with
  | zero =>
    intro h m σ hd hm hX hno
    refine ⟨h, σ, m, Rn.stop ?_, ⟨Nat.le_refl _, by omega⟩, hX, by omega, FrL.rf, fun _ => by omega, fun t ht ht2 => ⟨hno t ht ht2, Or.inl (by omega)⟩⟩
    show bX3_lays_43 q a2 (I most) σ = _
    unfold bX3_lays_43
    rw [hX.2.2.1, if_pos ((I_le (by omega) (by omega)).mpr (by omega))]
  | succ d ih =>
    intro h m σ hd hm hX hno
    have hks := kk_s d
    have hb0 : bX3_lays_43 q a2 (I most) σ = if a2 = (-1) then fX3_lays_72 q a2 (I most) σ else bn1 (fX3_is_cq1 q a2 (I h) σ) (fun r3 => if r3 = 0 then fX3_lays_72 q a2 (I most) σ else some (.inl σ)) := by
      unfold bX3_lays_43
      rw [hX.2.2.1, if_neg (fun y => absurd ((I_le (by omega) (by omega)).mp y) (by omega))]
    obtain ⟨s, m1, x1, x2, x3, x4⟩ := x_lay_step (a2 := a2) (a3 := I most) hq hn htg hbl hf (show h < 6 by omega) (by omega) hX
    rcases ha2 with ha2 | ⟨t, ht, ht2, -⟩
    · obtain ⟨h', σ', m', i1, i2, i3, i4, i5, i6, i7⟩ := ih (h + 1) m1 s (by omega) (by omega) x3 (fun t ht ht2 => absurd (ht.symm.trans ha2) (I_nm1 ht2))
      refine ⟨h', σ', m', Rn.step ?_ i1, ⟨by omega, i2.2⟩, i3, by omega, x4.tr i5, i6, i7⟩
      show bX3_lays_43 q a2 (I most) σ = _
      rw [hb0, if_pos ha2, x1]
    · have hn1 : ¬ a2 = -1 := by rw [ht]; exact I_nm1 ht2
      have uniq : ∀ t', a2 = I t' → t' < 59049 → t' = t := fun t' h1 h2 => (I_eq (by omega) (by omega)).mp (h1.symm.trans ht)
      rcases x_is1 hX.2.1 ht2 (show h < 7 by omega) with ⟨z, e⟩ | ⟨z, e⟩
      · refine ⟨h, σ, m, (Rn.stop ?_).le (by omega), ⟨Nat.le_refl _, by omega⟩, hX, by omega, FrL.rf, fun y => absurd y hn1, fun t' h1 h2 => by
          rw [uniq t' h1 h2]
          exact ⟨hno t ht ht2, Or.inr z.2⟩⟩
        show bX3_lays_43 q a2 (I most) σ = _
        rw [hb0, if_neg hn1, ht, e, bn1_s, if_neg (by decide)]
      · have z' : ¬ lev n tg bl first h t := fun y => z ⟨Nat.le_refl _, y⟩
        obtain ⟨h', σ', m', i1, i2, i3, i4, i5, i6, i7⟩ := ih (h + 1) m1 s (by omega) (by omega) x3 (fun t' h1 h2 i hi => by
          rw [uniq t' h1 h2]
          by_cases w : i = h
          · rw [w]; exact z'
          · exact hno t ht ht2 i (by omega))
        refine ⟨h', σ', m', Rn.step ?_ i1, ⟨by omega, i2.2⟩, i3, by omega, x4.tr i5, i6, i7⟩
        show bX3_lays_43 q a2 (I most) σ = _
        rw [hb0, if_neg hn1]
        have e' : fX3_is_cq1 q a2 (I h) σ = some 0 := by rw [ht]; exact e
        rw [e', bn1_s, if_pos rfl, x1]
/-- x's search for levels -/
theorem x_lays (hq : isP q) (hn : n ≤ 5) (htg : tg < 1024) (hbl : bl < 100) (hf : first < 9 ^ n) {a2 : Int32} (ha2 : goalIs a2 (fun _ => True)) {most m : Nat} (hmost : most ≤ 6) {σ : St} (hm : m + 2200000 < 2147483648) (hQ : PQ q n tg bl m σ) : ∃ r h σ' m', fX3_lays q (I first) a2 (I most) σ = some (r, σ') ∧ m' ≤ m + 1771470 ∧ h ≤ most ∧ XB q n tg bl first m' h σ' ∧ FrL q σ σ' ∧ (a2 = -1 → h = most ∧ r = -1) ∧ ∀ t, a2 = I t → t < 59049 → (∀ i, i < h → ¬ lev n tg bl first i t) ∧ ((lev n tg bl first h t ∧ r = I h) ∨ (¬ lev n tg bl first h t ∧ h = most ∧ r = -1)) := by
  have hq' : q = 24 ∨ q = 35 := hq
  have hp9 := pow9_le hn (Nat.le_refl n)
  obtain ⟨s, c1, c2, c3⟩ := clear_l (f := fun v : Int32 × St => bX3_lays_3 q (I first) a2 (I most) v.1 v.2) (c := q + 1) (fun k s hk => by
    show bX3_lays_3 q (I first) a2 (I most) (I k) s = _
    unfold bX3_lays_3
    rw [if_neg (show ¬ (59049 : Int32) ≤ I k from fun y => absurd ((I_le (a := 59049) (by omega) (by omega)).mp y) (by omega)), ckB_t (I_in (by omega) (by omega)), letB_t, letB_t, I_cl (by omega), show I k + 1 = I (k + 1) from I_add k 1, vp_nar_byte]
    rfl) (fun s => rfl) σ
  have fs : FrL q σ s := ⟨fun c _ c1 _ _ _ _ => c2 c c1, fun k _ _ _ => (c2 q (by omega)).1 k⟩
  generalize hs2 : pI (pA (pA s (q + 1) first (vp_nar .byte 1)) (q + 8) 0 1) q 16 0 = s2
  have f2 : FrL q s s2 := by
    rw [← hs2]
    exact ⟨fun c c1 c2 _ _ _ c6 => ((agc.pA c2).tr (agc.pA c6)).tr (agc.pI c1), fun k _ _ k3 => by rw [gI_pI, if_neg (fun y => k3 y.2)]; rfl⟩
  have fr := fs.tr f2
  have hX0 : XB q n tg bl first m 0 s2 := by
    refine ⟨hQ.keep (fun k hk => by rw [← hs2, gI_pI, if_neg (by omega)]; exact (c2 q (by omega)).1 k) ?_ ?_ ?_, ?_, by rw [← hs2, gI_pI, if_pos ⟨rfl, rfl⟩]; rfl, fun i hi => ?_⟩
    · exact (fr.1 (q + 7) (by omega) (by omega) (by omega) (by omega) (by omega) (by omega)).of
    · exact (fr.1 2 (by omega) (by omega) (by omega) (by omega) (by omega) (by omega)).1 6
    · rw [← hs2, gA_pI_f, gA_pA_n (by omega), gA_pA_n (by omega)]
      exact (c2 (q + 4) (by omega)).of
    · have := BA.first (c := q + 1) (a := first) (σ := s) (σ' := s2) c3 (fun w => by
        rw [← hs2, gA_pI_f, gA_pA_n (by omega), gA_upf, vp_nar_byte]
        rfl)
      refine this.cg (fun _ => rfl) (fun i v _ _ => ⟨fun y => ⟨by omega, by rw [y.1]; exact y.2⟩, fun y => ?_⟩)
      have hi : i = 0 := by omega
      subst hi
      exact ⟨rfl, y.2⟩
    · have hi : i = 0 := by omega
      subst hi
      have e : cnt (lev n tg bl first 0) 59049 = 1 := by
        have e1 : cnt (lev n tg bl first 0) 59049 = cnt (fun w => False ∨ w = first) 59049 := cnt_cg (fun v _ => ⟨fun y => Or.inr y, fun y => y.elim False.elim id⟩)
        have e2 : cnt (fun w => False ∨ w = first) 59049 = cnt (fun _ => False) 59049 + 1 := cnt_add (P := fun _ => False) id (by omega)
        have e3 : cnt (fun _ : Nat => False) 59049 = 0 := cnt_none (fun _ _ => id)
        rw [e1, e2, e3]
      rw [← hs2, gA_pI_f, gA_upf, upf_s]
      exact (congrArg I e).symm
  have hk6 := kk_6 most hmost
  obtain ⟨h', σ', m', i1, i2, i3, i4, i5, i6, i7⟩ := x_lays_loop hq hn htg hbl hf ha2 hmost most 0 m s2 (by omega) (by omega) hX0 (fun t _ _ i hi => absurd hi (by omega))
  have hdef : fX3_lays q (I first) a2 (I most) σ = fX3_lays_191 q a2 σ' := by
    unfold fX3_lays fX3_lays_3
    rw [c1, bn1_s]
    unfold xX3_lays_3 fX3_lays_24
    rw [ckB_t (I_in (by omega) (by omega)), letB_t, ckB_t (show vp_in 0 7 from I_in (n := 0) (by omega) (by omega)), letB_t, letB_t, I_cl (by omega), show (0 : Int32).toNatClampNeg = 0 from rfl, hs2]
    unfold fX3_lays_43
    rw [i1.fu (by rw [FU_v]; omega), bn1_s]
    rfl
  rw [hdef]
  unfold fX3_lays_191
  rcases ha2 with ha2 | ⟨t, ht, ht2, -⟩
  · rw [if_pos ha2]
    exact ⟨-1, h', σ', m', rfl, by omega, i2.2, i3, fr.tr i5, fun _ => ⟨i6 ha2, rfl⟩, fun t ht ht2 => absurd (ht.symm.trans ha2) (I_nm1 ht2)⟩
  · have hn1 : ¬ a2 = -1 := by rw [ht]; exact I_nm1 ht2
    have uniq : ∀ t', a2 = I t' → t' < 59049 → t' = t := fun t' h1 h2 => (I_eq (by omega) (by omega)).mp (h1.symm.trans ht)
    rw [if_neg hn1, i3.2.2.1]
    rcases x_is1 i3.2.1 ht2 (show h' < 7 by omega) with ⟨z, e⟩ | ⟨z, e⟩
    · rw [ht, e, bn1_s, if_neg (by decide), ← ht]
      exact ⟨I h', h', σ', m', rfl, by omega, i2.2, i3, fr.tr i5, fun y => absurd y hn1, fun t' h1 h2 => by
        rw [uniq t' h1 h2]
        exact ⟨(i7 t ht ht2).1, Or.inl ⟨z.2, rfl⟩⟩⟩
    · have z' : ¬ lev n tg bl first h' t := fun y => z ⟨Nat.le_refl _, y⟩
      rw [ht, e, bn1_s, if_pos rfl, ← ht]
      exact ⟨-1, h', σ', m', rfl, by omega, i2.2, i3, fr.tr i5, fun y => absurd y hn1, fun t' h1 h2 => by
        rw [uniq t' h1 h2]
        exact ⟨(i7 t ht ht2).1, Or.inr ⟨z', (i7 t ht ht2).2.elim id (fun y => absurd y z'), rfl⟩⟩⟩
end RL
