/-! the plain law: rows of iron compared; a run from where both sides are -/
set_option maxRecDepth 100000
theorem agc.of {σ σ' : St} {c : Nat} (h : agc σ σ' c) : gA σ' c = gA σ c := funext h.2.1
def rv (g : Nat → Int32) : Nat → Nat
  | 0 => 0
  | k + 1 => 9 * rv g k + ((g k).toInt.toNat - 1)
def ib (g : Nat → Int32) (n : Nat) : Prop := ∀ c, c < n → 1 ≤ (g c).toInt ∧ (g c).toInt ≤ 9
theorem ib0 {g : Nat → Int32} {n c : Nat} (h : ib g n) (hc : c < n) : 0 ≤ (g c).toInt ∧ (g c).toInt ≤ 9 := ⟨Int.le_trans (by decide) (h c hc).1, (h c hc).2⟩
theorem rv_lt {g : Nat → Int32} : ∀ {n : Nat}, ib g n → rv g n < 9 ^ n
  | 0, _ => by simp [rv]
  | n + 1, h => by
    have h1 := rv_lt (n := n) (fun c hc => h c (by omega))
    have h2 := h n (by omega)
    unfold rv
    rw [Nat.pow_succ]
    omega
theorem rv_cg {g g' : Nat → Int32} : ∀ {n : Nat}, (∀ c, c < n → g' c = g c) → rv g' n = rv g n
  | 0, _ => rfl
  | n + 1, h => by
    unfold rv
    rw [rv_cg (fun c hc => h c (by omega)), h n (by omega)]
theorem rv_inj {g g' : Nat → Int32} : ∀ {n : Nat}, ib g n → ib g' n → (rv g n = rv g' n ↔ ∀ c, c < n → g c = g' c)
  | 0, _, _ => ⟨fun _ c hc => absurd hc (by omega), fun _ => rfl⟩
  | n + 1, h, h' => by
    have ih := rv_inj (n := n) (fun c hc => h c (by omega)) (fun c hc => h' c (by omega))
    have h2 := h n (by omega)
    have h3 := h' n (by omega)
    refine ⟨fun e c hc => ?_, fun e => rv_cg (fun c hc => e c hc)⟩
    unfold rv at e
    by_cases q : c = n
    · subst q
      exact Int32.toInt_inj.mp (by omega)
    · exact ih.mp (by omega) c (by omega)
/-- how far apart -/
def ap (f g : Nat → Int32) : Nat → Nat
  | 0 => 0
  | k + 1 => ap f g k + ((f k).toInt - (g k).toInt).natAbs
theorem ap_cg {f g f' g' : Nat → Int32} : ∀ {n : Nat}, (∀ c, c < n → f' c = f c) → (∀ c, c < n → g' c = g c) → ap f' g' n = ap f g n
  | 0, _, _ => rfl
  | n + 1, h, h' => by
    unfold ap
    rw [ap_cg (fun c hc => h c (by omega)) (fun c hc => h' c (by omega)), h n (by omega), h' n (by omega)]
theorem ap_0 {f g : Nat → Int32} : ∀ {n : Nat}, ap f g n = 0 ↔ ∀ c, c < n → f c = g c
  | 0 => ⟨fun _ c hc => absurd hc (by omega), fun _ => rfl⟩
  | n + 1 => by
    have ih := ap_0 (f := f) (g := g) (n := n)
    unfold ap
    refine ⟨fun e c hc => ?_, fun e => ?_⟩
    · by_cases q : c = n
      · subst q
        exact Int32.toInt_inj.mp (by omega)
      · exact ih.mp (by omega) c (by omega)
    · rw [ih.mpr (fun c hc => e c (by omega)), e n (by omega)]
      omega
theorem ap_le {f g : Nat → Int32} : ∀ {n : Nat}, ib f n → ib g n → ap f g n ≤ 8 * n
  | 0, _, _ => Nat.le_refl _
  | n + 1, h, h' => by
    have ih := ap_le (n := n) (fun c hc => h c (by omega)) (fun c hc => h' c (by omega))
    have h2 := h n (by omega)
    have h3 := h' n (by omega)
    unfold ap
    omega
theorem x_row {q n : Nat} {σ : St} (hn : n ≤ 5) (h3 : gI σ q 3 = I n) (hb : ib (gA σ (q + 1)) n) : fX2_row q σ = some (I (rv (gA σ (q + 1)) n)) := by
  have hl : iter (fun v : Int32 × Int32 => bX2_row_4 q v.1 v.2 σ) FU (0, 0) = some (I (rv (gA σ (q + 1)) n)) := by
    refine Rn.seq (fun k => (I (rv (gA σ (q + 1)) k), I k)) n (fun k hk => ?_) ?_ (by rw [FU_v]; omega)
    · show bX2_row_4 q (I (rv (gA σ (q + 1)) k)) (I k) σ = _
      unfold bX2_row_4
      rw [h3, if_neg (fun y => absurd ((I_le (by omega) (by omega)).mp y) (by omega)), ckB_t (I_in (by omega) (by omega)), I_cl (by omega), letB_t, letB_t]
      have hk1 := hb k hk
      have hlt := rv_lt (g := gA σ (q + 1)) (n := k) (fun c hc => hb c (by omega))
      have hp : 9 ^ k ≤ 9 ^ 5 := Nat.pow_le_pow_right (by omega) (by omega)
      have e : 9 * I (rv (gA σ (q + 1)) k) + gA σ (q + 1) k - 1 = I (rv (gA σ (q + 1)) (k + 1)) := by
        rw [show rv (gA σ (q + 1)) (k + 1) = 9 * rv (gA σ (q + 1)) k + ((gA σ (q + 1) k).toInt.toNat - 1) from rfl]
        have hx : gA σ (q + 1) k = I (gA σ (q + 1) k).toInt.toNat := I_of (by omega)
        generalize (gA σ (q + 1) k).toInt = z at hk1 hx
        rw [hx, show (9 : Int32) * I (rv (gA σ (q + 1)) k) = I (9 * rv (gA σ (q + 1)) k) from I_mul 9 _, I_add, show (1 : Int32) = I 1 from rfl, I_sub (by omega) (by omega)]
        congr 1
        omega
      rw [e, show I k + 1 = I (k + 1) from I_add k 1]
    · show bX2_row_4 q (I (rv (gA σ (q + 1)) n)) (I n) σ = _
      unfold bX2_row_4
      rw [h3, if_pos ((I_le (by omega) (by omega)).mpr (Nat.le_refl n))]
  unfold fX2_row fX2_row_4
  rw [hl, bn1_s]
  rfl
theorem abs_I {a b : Int32} (ha : 0 ≤ a.toInt ∧ a.toInt ≤ 9) (hb : 0 ≤ b.toInt ∧ b.toInt ≤ 9) : (if 0 ≤ a - b then a - b else 0 - (a - b)) = I (a.toInt - b.toInt).natAbs ∧ (if 0 ≤ a - b then a - b else -(a - b)) = I (a.toInt - b.toInt).natAbs := by
  have e : (a - b).toInt = a.toInt - b.toInt := ti_sub (by omega) (by omega)
  have e2 : (0 - (a - b)).toInt = b.toInt - a.toInt := by rw [ti_sub (by rw [Int32.toInt_zero]; omega) (by rw [Int32.toInt_zero]; omega), Int32.toInt_zero, e]; omega
  have e3 : (-(a - b)).toInt = b.toInt - a.toInt := by rw [ti_neg (by omega), e]; omega
  by_cases q : b.toInt ≤ a.toInt
  · have q' : (0 : Int32) ≤ a - b := by rw [le_ti, Int32.toInt_zero, e]; omega
    rw [if_pos q', if_pos q']
    have : a - b = I (a.toInt - b.toInt).natAbs := Int32.toInt_inj.mp (by rw [I_toInt (by omega), e]; omega)
    exact ⟨this, this⟩
  · have q' : ¬ (0 : Int32) ≤ a - b := by rw [le_ti, Int32.toInt_zero, e]; omega
    rw [if_neg q', if_neg q']
    exact ⟨Int32.toInt_inj.mp (by rw [I_toInt (by omega), e2]; omega), Int32.toInt_inj.mp (by rw [I_toInt (by omega), e3]; omega)⟩
theorem x_apart {a b n : Nat} {σ : St} (hn : n ≤ 5) (ha : a < 12) (hb : b < 12) (h5 : gI σ 2 5 = I n) (h1 : ib (fun c => gA σ 47 (5 * a + c)) n) (h2 : ib (fun c => gA σ 47 (5 * b + c)) n) : fX0_apart (I a) (I b) σ = some (I (ap (fun c => gA σ 47 (5 * a + c)) (fun c => gA σ 47 (5 * b + c)) n)) := by
  have hl : iter (fun v : Int32 × Int32 => bX0_apart_5 (I a) (I b) v.1 v.2 σ) FU (0, 0) = some (I (ap (fun c => gA σ 47 (5 * a + c)) (fun c => gA σ 47 (5 * b + c)) n)) := by
    refine Rn.seq (fun k => (I (ap (fun c => gA σ 47 (5 * a + c)) (fun c => gA σ 47 (5 * b + c)) k), I k)) n (fun k hk => ?_) ?_ (by rw [FU_v]; omega)
    · show bX0_apart_5 (I a) (I b) (I (ap _ _ k)) (I k) σ = _
      unfold bX0_apart_5
      have e1 : ∀ a : Nat, (5 : Int32) * I a + I k = I (5 * a + k) := fun a => by
        rw [show (5 : Int32) * I a = I (5 * a) from I_mul 5 a, I_add]
      rw [h5, if_neg (fun y => absurd ((I_le (by omega) (by omega)).mp y) (by omega)), e1, e1, ckB_t (I_in (by omega) (by omega)), ckB_t (I_in (by omega) (by omega)), I_cl (by omega), I_cl (by omega), letB_t, letB_t, (abs_I (ib0 h1 hk) (ib0 h2 hk)).1, I_add, show I k + 1 = I (k + 1) from I_add k 1]
      rfl
    · show bX0_apart_5 (I a) (I b) (I (ap _ _ n)) (I n) σ = _
      unfold bX0_apart_5
      rw [h5, if_pos ((I_le (by omega) (by omega)).mpr (Nat.le_refl n))]
  unfold fX0_apart fX0_apart_5
  rw [hl, bn1_s]
  rfl
theorem m_apart {a n : Nat} {σ : St} (hn : n ≤ 5) (ha : a < 12) (h5 : gA σ 2 0 = I n) (h1 : ib (gA σ 10) n) (h2 : ib (fun c => gA σ 17 (5 * a + c)) n) : fX6_apart (I a) σ = some (I (ap (gA σ 10) (fun c => gA σ 17 (5 * a + c)) n)) := by
  have hl : iter (fun v : Int32 × Int32 => bX6_apart_4 (I a) v.1 v.2 σ) FU (0, 0) = some (I (ap (gA σ 10) (fun c => gA σ 17 (5 * a + c)) n)) := by
    refine Rn.seq (fun k => (I (ap (gA σ 10) (fun c => gA σ 17 (5 * a + c)) k), I k)) n (fun k hk => ?_) ?_ (by rw [FU_v]; omega)
    · show bX6_apart_4 (I a) (I (ap _ _ k)) (I k) σ = _
      unfold bX6_apart_4
      have e1 : (5 : Int32) * I a + I k = I (5 * a + k) := by
        rw [show (5 : Int32) * I a = I (5 * a) from I_mul 5 a, I_add]
      rw [ckB_l (by decide), show (0 : Int32).toNatClampNeg = 0 from rfl, h5, if_neg (fun y => absurd ((I_le (by omega) (by omega)).mp y) (by omega)), e1, ckB_t (I_in (by omega) (by omega)), ckB_t (I_in (by omega) (by omega)), I_cl (by omega), I_cl (by omega), letB_t]
      have hA := (abs_I (ib0 h1 hk) (ib0 h2 hk)).2
      have e2 : I (ap (gA σ 10) (fun c => gA σ 17 (5 * a + c)) (k + 1)) = I (ap (gA σ 10) (fun c => gA σ 17 (5 * a + c)) k) + I ((gA σ 10 k).toInt - (gA σ 17 (5 * a + k)).toInt).natAbs := (I_add _ _).symm
      rw [e2, ← hA]
      by_cases z : 0 ≤ gA σ 10 k - gA σ 17 (5 * a + k)
      · rw [if_pos z, if_pos z, letB_t, letB_t, show I k + 1 = I (k + 1) from I_add k 1]
      · rw [if_neg z, if_neg z, letB_t, letB_t, show I k + 1 = I (k + 1) from I_add k 1]
    · show bX6_apart_4 (I a) (I (ap _ _ n)) (I n) σ = _
      unfold bX6_apart_4
      rw [ckB_l (by decide), show (0 : Int32).toNatClampNeg = 0 from rfl, h5, if_pos ((I_le (by omega) (by omega)).mpr (Nat.le_refl n))]
  unfold fX6_apart fX6_apart_4
  rw [hl, bn1_s]
  rfl
/-- a run: what it leaves -/
def Run (q : Nat) (σ m σ' m' : St) : Prop := WkR q σ' m' ∧ (∀ c, c ≠ q → c ≠ q + 1 → c ≠ q + 2 → c ≠ q + 3 → c ≠ 48 → agc σ σ' c) ∧ (∀ d, d ≠ 0 → d ≠ 10 → d ≠ 11 → d ≠ 12 → d ≠ 13 → agc m m' d) ∧ ∀ k, k < 26 ∨ 41 < k → gI m' 0 k = gI m 0 k
theorem LR.run {q c : Nat} {σ m σ' m' : St} {x : Option Nat} (h : LR q (pR σ q 22 x) m σ' m' c) : Run q σ m σ' m' := ⟨h.2.1, fun d d1 d2 d3 d4 d5 => (agc.pR d1).tr (h.2.2.1.1 d d1 d2 d3 d4 (n48 d5)), h.2.2.2.1, h.2.2.2.2.1⟩
theorem runN {q i N : Nat} {σ m : St} {η : Eta} {a3 : Int32} (hS : PSt σ η m) (hq : isW q) (hN : gA m 2 1 = I N) (hN8 : N ≤ 8) (hi : i < N) (hT : ∀ n, gA m 2 (60 + 1000 * i) = I n → 1 ≤ n → n ≤ 16 → turnedOK a3 n) (h42 : gI m 0 42 = -1) : ∃ c σ' m', fX0_goes_cN η.1 q (I i) a3 σ = some (I c, σ') ∧ fX6_goThrough (I i) a3 m = some m' ∧ Run q σ m σ' m' ∧ agc σ σ' 48 := by
  obtain ⟨F, er, N', hF, N8, e1, hL, hr⟩ := hS.run
  have en : N = N' := (I_eq (by omega) (by omega)).mp (hN.symm.trans e1)
  subst en
  obtain ⟨l, n, g1, g2, g3, g4, g5, g6, g7⟩ := hr i hi
  obtain ⟨c, σ', m', x1, y1, w1, -⟩ := goesN_both hq hS.R hS.B hL N8 hi g1 hF g2 g3 g5 (hT n g3 g4 g5) h42
  have hq4 := hq.n48
  exact ⟨c, σ', m', x1, y1, w1.run, (agc.pR (by omega)).tr (w1.2.2.1.1 48 (by omega) (by omega) (by omega) (by omega) (fun _ => by rw [gR_pR, if_pos ⟨rfl, rfl⟩]))⟩
theorem runH {q i N : Nat} {σ m : St} {η : Eta} (hS : PSt σ η m) (hq : isW q) (hN : gA m 2 1 = I N) (hN8 : N ≤ 8) (hi : i < N) (hH : gI σ 48 0 = gI m 0 42 ∧ (0 ≤ (gI m 0 42).toInt ∧ (gI m 0 42).toInt ≤ 100) ∧ (gI σ 48 1).toInt = (gL m 0 43).toInt ∧ 0 ≤ (gL m 0 43).toInt ∧ (gL m 0 43).toInt ≤ 1000003) : ∃ c σ' m', fX0_goes_c48 η.1 q (I i) (-1) σ = some (I c, σ') ∧ fX6_goThrough (I i) (-1) m = some m' ∧ Run q σ m σ' m' := by
  obtain ⟨F, er, N', hF, N8, e1, hL, hr⟩ := hS.run
  have en : N = N' := (I_eq (by omega) (by omega)).mp (hN.symm.trans e1)
  subst en
  obtain ⟨l, n, g1, g2, g3, g4, g5, g6, g7⟩ := hr i hi
  have hq48 := hq.n48.1
  obtain ⟨c, σ', m', x1, y1, w1, -⟩ := goesH_both hq hS.R hS.B hL N8 hi g1 hF g2 g3 g5 (Or.inl rfl) (Or.inr ⟨by rw [gR_pR, if_pos ⟨rfl, rfl⟩], hH⟩)
  exact ⟨c, σ', m', x1, y1, w1.run⟩
/-- what several runs leave alone -/
def KeX (σ0 σ : St) : Prop := ∀ d, ¬ (16 ≤ d ∧ d ≤ 23) → d ≠ 47 → d ≠ 48 → agc σ0 σ d
def KeM (m0 m : St) : Prop := (∀ d, d ≠ 0 → ¬ (10 ≤ d ∧ d ≤ 13) → d ≠ 17 → agc m0 m d) ∧ ∀ k, (2 ≤ k ∧ k < 26) ∨ 43 ≤ k → gI m 0 k = gI m0 0 k
theorem KeX.rf {σ : St} : KeX σ σ := fun _ _ _ _ => agc.rf
theorem KeM.rf {σ : St} : KeM σ σ := ⟨fun _ _ _ _ => agc.rf, fun _ _ => rfl⟩
theorem KeX.tr {σ σ' σ'' : St} (h : KeX σ σ') (h' : KeX σ' σ'') : KeX σ σ'' := fun d d1 d2 d3 => (h d d1 d2 d3).tr (h' d d1 d2 d3)
theorem KeM.tr {σ σ' σ'' : St} (h : KeM σ σ') (h' : KeM σ' σ'') : KeM σ σ'' := ⟨fun d d1 d2 d3 => (h.1 d d1 d2 d3).tr (h'.1 d d1 d2 d3), fun k hk => (h'.2 k hk).trans (h.2 k hk)⟩
theorem Run.KeX {q : Nat} {σ m σ' m' : St} (h : Run q σ m σ' m') (hq : q = 16 ∨ q = 20) : KeX σ σ' := fun d d1 _ d3 => h.2.1 d (by omega) (by omega) (by omega) (by omega) d3
theorem Run.KeM {q : Nat} {σ m σ' m' : St} (h : Run q σ m σ' m') : KeM m m' := ⟨fun d d1 d2 _ => h.2.2.1 d d1 (by omega) (by omega) (by omega) (by omega), fun k hk => h.2.2.2 k (by omega)⟩
theorem PSt.keep {σ0 σ m0 m : St} {η : Eta} (hS : PSt σ0 η m0) (hx : KeX σ0 σ) (hm : KeM m0 m) : PSt σ η m := hS.quiet (fun c hc => hx c (by omega) (by omega) (by omega)) (fun i _ => (hm.1 2 (by omega) (by omega) (by omega)).2.1 i) (fun i _ => (hm.1 3 (by omega) (by omega) (by omega)).2.1 i) (fun i _ => (hm.1 4 (by omega) (by omega) (by omega)).2.1 i)
theorem PI.keep {j : Nat} {σ σ' σm σm' : St} {η : Eta} (h : PI j σ η σm) (hx : KeX σ σ') (hm : KeM σm σm') (h1 : gI σm' 0 1 = gI σm 0 1) : PI (j + 1) σ' η σm' := by
  have x0 := hx 0 (by omega) (by omega) (by omega)
  refine PI.work (fun c hc => hx c (by omega) (by omega) (by omega)) (fun k _ _ => x0.1 k) (fun c hc => hm.1 c (by omega) (by omega) (by omega)) (fun k hk => hm.2 k (by omega)) ?_ ?_ h
  · rw [x0.1, h1]
    exact h.2.1
  · exact h.2.2.2.2.2.2.1.cg (x0.1 11) (hx 12 (by omega) (by omega) (by omega)).1 (hx 13 (by omega) (by omega) (by omega)).of (hx 15 (by omega) (by omega) (by omega)).of (hm.2 45 (by omega)) (hm.1 14 (by omega) (by omega) (by omega)).of (hm.1 15 (by omega) (by omega) (by omega)).of (hm.1 16 (by omega) (by omega) (by omega)).of
theorem KeM.thr {m : St} : KeM m (pI m 0 0 0) := ⟨fun d d1 _ _ => agc.pI d1, fun k hk => by rw [gI_pI, if_neg (by omega)]⟩
theorem KeM.s42 {m : St} (x : Int32) : KeM m (pI m 0 42 x) := ⟨fun d d1 _ _ => agc.pI d1, fun k hk => by rw [gI_pI, if_neg (by omega)]⟩
/-- what a run made -/
theorem Run.irons {q n : Nat} {σ m σ' m' : St} (h : Run q σ m σ' m') (hn : gA m 2 0 = I n) (hn5 : n ≤ 5) : gI σ' q 3 = I n ∧ gA m' 2 0 = I n ∧ (∀ c, c < n → gA σ' (q + 1) c = gA m' 10 c) ∧ ib (gA m' 10) n ∧ ib (gA σ' (q + 1)) n := by
  have e2 : gA m' 2 0 = I n := by rw [(h.2.2.1 2 (by omega) (by omega) (by omega) (by omega) (by omega)).2.1]; exact hn
  have hi : (gA m' 2 0).toInt = n := by rw [e2, I_toInt (by omega)]
  have h7 := h.1.2.2.2.1
  refine ⟨h.1.2.1.1.trans e2, e2, fun c hc => (h7 c (by omega)).1, fun c hc => (h7 c (by omega)).2, fun c hc => ?_⟩
  rw [(h7 c (by omega)).1]
  exact (h7 c (by omega)).2
