/-! the plain law: a bar in the fire, x's Work against the model's fields -/
set_option maxRecDepth 100000
def wtb : List (Nat × Nat) := [(7, 26), (8, 27), (9, 29), (10, 30), (11, 31), (12, 32), (13, 33), (14, 34), (15, 36), (16, 37), (17, 38), (18, 39), (19, 40), (20, 28), (21, 35)]
theorem wtb_i : ∀ p, p ∈ wtb → ∀ p', p' ∈ wtb → (p'.1 = p.1 ↔ p'.2 = p.2) := by decide
theorem wtb_b : ∀ p, p ∈ wtb → 7 ≤ p.1 ∧ p.1 ≤ 21 ∧ 26 ≤ p.2 ∧ p.2 ≤ 40 := by decide
theorem wtb_8 : ∀ p, p ∈ wtb → (p.1 = 8 ↔ p.2 = 27) ∧ (p.1 = 17 ↔ p.2 = 38) := by decide
def WeldOK (w : Int32) (o : Nat → Int32) : Prop := (0 ≤ w.toInt ∧ w.toInt < 16) ∧ ∀ c, c < 5 → 0 ≤ (o c).toInt ∧ (o c).toInt ≤ 100 ∧ ((w >>> I c) &&& 1 = 1 → 30 ≤ (o c).toInt)
def HdR (q : Nat) (σ σm : St) : Prop := (gR σ q 22 = none ∧ gI σm 0 42 = -1) ∨ (gR σ q 22 = some 48 ∧ gI σ 48 0 = gI σm 0 42 ∧ (0 ≤ (gI σm 0 42).toInt ∧ (gI σm 0 42).toInt ≤ 100) ∧ (gI σ 48 1).toInt = (gL σm 0 43).toInt ∧ 0 ≤ (gL σm 0 43).toInt ∧ (gL σm 0 43).toInt ≤ 1000003)
def WkR (q : Nat) (σ σm : St) : Prop := (∀ p, p ∈ wtb → gI σ q p.1 = gI σm 0 p.2) ∧ (gI σ q 3 = gA σm 2 0 ∧ gI σ q 4 = gA σm 2 3 ∧ gI σ q 5 = gA σm 2 10 ∧ gI σ q 6 = gA σm 2 14) ∧ cfgB (gA σm 2) ∧ (∀ c : Nat, (c : Int) < (gA σm 2 0).toInt → gA σ (q + 1) c = gA σm 10 c ∧ 1 ≤ (gA σm 10 c).toInt ∧ (gA σm 10 c).toInt ≤ 9) ∧ (∀ c, c < 5 → gA σ (q + 2) c = gA σm 11 c) ∧ (∀ c, c < 5 → gA σ (q + 3) c = gA σm 12 c) ∧ (0 ≤ (gI σm 0 27).toInt ∧ (gI σm 0 27).toInt ≤ 4) ∧ WeldOK (gI σm 0 38) (gA σm 12) ∧ HdR q σ σm
def agW (q : Nat) (σ σ' : St) : Prop := (∀ c, c ≠ q → c ≠ q + 1 → c ≠ q + 2 → c ≠ q + 3 → (c = 48 → gR σ q 22 = none) → agc σ σ' c) ∧ gR σ' q 22 = gR σ q 22
theorem n48 {c : Nat} {P : Prop} (h : c ≠ 48) : c = 48 → P := fun z => absurd z h
def agM (σm σm' : St) : Prop := (∀ c, c ≠ 0 → c ≠ 10 → c ≠ 11 → c ≠ 12 → c ≠ 13 → agc σm σm' c) ∧ ∀ k, k < 26 ∨ k = 35 ∨ 40 < k → gI σm' 0 k = gI σm 0 k
/-- so far -/
def WS (q : Nat) (σ0 σm0 σ σm : St) : Prop := isW q ∧ WkR q σ σm ∧ agW q σ0 σ ∧ agM σm0 σm
theorem isW.n48 {q : Nat} (h : isW q) : q ≠ 48 ∧ q + 1 ≠ 48 ∧ q + 2 ≠ 48 ∧ q + 3 ≠ 48 := by unfold isW at h; omega
section WS
variable {q : Nat} {σ0 σm0 σ σm : St}
theorem WS.T (h : WS q σ0 σm0 σ σm) {p : Nat × Nat} (hp : p ∈ wtb) : gI σ q p.1 = gI σm 0 p.2 := h.2.1.1 p hp
theorem WS.Ev (h : WS q σ0 σm0 σ σm) : EvR q σ σm := ⟨h.2.1.2.1.1, h.2.1.2.2.1.1, h.T (p := (7, 26)) (by decide), h.T (p := (8, 27)) (by decide), h.T (p := (9, 29)) (by decide), h.T (p := (10, 30)) (by decide), h.2.1.2.2.2.1⟩
theorem WkR.setI (hq : isW q) (h : WkR q σ σm) {p : Nat × Nat} (hp : p ∈ wtb) (x : Int32) (h8' : p.1 = 8 → 0 ≤ x.toInt ∧ x.toInt ≤ 4) (h17 : p.1 = 17 → WeldOK x (gA σm 12)) : WkR q (pI σ q p.1 x) (pI σm 0 p.2 x) := by
  obtain ⟨h1, ⟨h2, h3, h4, h5⟩, h6, h7, h9, h10, h11, h12, h13⟩ := h
  have hb := wtb_b p hp
  have h88 := wtb_8 p hp
  have hn := hq.n48
  refine ⟨fun p' hp' => ?_, ⟨?_, ?_, ?_, ?_⟩, h6, h7, h9, h10, ?_, ?_, ?_⟩
  · rw [gI_pI, gI_pI]
    by_cases z : p'.1 = p.1
    · rw [if_pos ⟨rfl, z⟩, if_pos ⟨rfl, (wtb_i p hp p' hp').mp z⟩]
    · rw [if_neg (fun y => z y.2), if_neg (fun y => z ((wtb_i p hp p' hp').mpr y.2))]
      exact h1 p' hp'
  · rw [gI_pI, if_neg (by omega)]; exact h2
  · rw [gI_pI, if_neg (by omega)]; exact h3
  · rw [gI_pI, if_neg (by omega)]; exact h4
  · rw [gI_pI, if_neg (by omega)]; exact h5
  · rw [gI_pI]
    by_cases z : (0 : Nat) = 0 ∧ 27 = p.2
    · rw [if_pos z]; exact h8' (h88.1.mpr z.2.symm)
    · rw [if_neg z]; exact h11
  · rw [gI_pI]
    by_cases z : (0 : Nat) = 0 ∧ 38 = p.2
    · rw [if_pos z]; exact h17 (h88.2.mpr z.2.symm)
    · rw [if_neg z]; exact h12
  · unfold HdR
    rw [gI_pI, gI_pI, gI_pI, if_neg (by omega), if_neg (by omega), if_neg (by omega)]
    exact h13
theorem WS.setI (h : WS q σ0 σm0 σ σm) {p : Nat × Nat} (hp : p ∈ wtb) (x : Int32) (h8 : p.1 = 8 → 0 ≤ x.toInt ∧ x.toInt ≤ 4) (h17 : p.1 = 17 → WeldOK x (gA σm 12)) (h35 : p.2 ≠ 35 := by decide) : WS q σ0 σm0 (pI σ q p.1 x) (pI σm 0 p.2 x) := by
  obtain ⟨hq, hW, ⟨h14, h15⟩, h16, h17'⟩ := h
  have hb := wtb_b p hp
  refine ⟨hq, hW.setI hq hp x h8 h17, ⟨fun c c1 c2 c3 c4 c5 => (h14 c c1 c2 c3 c4 c5).tr (agc.pI c1), h15⟩, fun c c1 c2 c3 c4 c5 => (h16 c c1 c2 c3 c4 c5).tr (agc.pI c1), fun k hk => ?_⟩
  rw [gI_pI, if_neg (by omega)]
  exact h17' k hk
theorem WS.setF (h : WS q σ0 σm0 σ σm) {p : Nat × Nat} (hp : p ∈ wtb) (h8 : p.1 ≠ 8) (h17 : p.1 ≠ 17) (x : Int32) (h35 : p.2 ≠ 35 := by decide) : WS q σ0 σm0 (pI σ q p.1 x) (pI σm 0 p.2 x) := h.setI hp x (fun z => absurd z h8) (fun z => absurd z h17) h35
theorem WS.setIron (h : WS q σ0 σm0 σ σm) {c : Nat} {x : Int32} (hx : 1 ≤ x.toInt ∧ x.toInt ≤ 9) : WS q σ0 σm0 (pA σ (q + 1) c x) (pA σm 10 c x) := by
  obtain ⟨hq, ⟨h1, h2, h6, h7, h9, h10, h11, h12, h13⟩, ⟨h14, h15⟩, h16, h17'⟩ := h
  refine ⟨hq, ⟨h1, h2, h6, fun d hd => ?_, fun d hd => ?_, fun d hd => ?_, h11, h12, h13⟩, ⟨fun c c1 c2 c3 c4 c5 => (h14 c c1 c2 c3 c4 c5).tr (agc.pA c2), h15⟩, fun c c1 c2 c3 c4 c5 => (h16 c c1 c2 c3 c4 c5).tr (agc.pA c2), h17'⟩
  · rw [gA_upf, gA_upf]
    unfold upf
    by_cases z : d = c
    · rw [if_pos z, if_pos z]; exact ⟨rfl, hx⟩
    · rw [if_neg z, if_neg z]; exact h7 d hd
  · rw [gA_pA_n (by omega), gA_pA_n (by omega)]; exact h9 d hd
  · rw [gA_pA_n (by omega), gA_pA_n (by omega)]; exact h10 d hd
theorem WS.setPunch (h : WS q σ0 σm0 σ σm) {c : Nat} {x : Int32} : WS q σ0 σm0 (pA σ (q + 2) c x) (pA σm 11 c x) := by
  obtain ⟨hq, ⟨h1, h2, h6, h7, h9, h10, h11, h12, h13⟩, ⟨h14, h15⟩, h16, h17'⟩ := h
  refine ⟨hq, ⟨h1, h2, h6, fun d hd => ?_, fun d hd => ?_, fun d hd => ?_, h11, h12, h13⟩, ⟨fun c c1 c2 c3 c4 c5 => (h14 c c1 c2 c3 c4 c5).tr (agc.pA c3), h15⟩, fun c c1 c2 c3 c4 c5 => (h16 c c1 c2 c3 c4 c5).tr (agc.pA c3), h17'⟩
  · rw [gA_pA_n (by omega), gA_pA_n (by omega)]; exact h7 d hd
  · rw [gA_upf, gA_upf]
    unfold upf
    by_cases z : d = c
    · rw [if_pos z, if_pos z]
    · rw [if_neg z, if_neg z]; exact h9 d hd
  · rw [gA_pA_n (by omega), gA_pA_n (by omega)]; exact h10 d hd
theorem WS.s13 (h : WS q σ0 σm0 σ σm) (g : Nat → Int32) : WS q σ0 σm0 σ (s13 σm g) := by
  obtain ⟨hq, h1, h2, h3, h4⟩ := h
  refine ⟨hq, h1, h2, fun c c1 c2 c3 c4 c5 => (h3 c c1 c2 c3 c4 c5).tr ⟨fun _ => rfl, fun k => ?_, fun _ => rfl⟩, h4⟩
  show (if c = 13 then g else σm.2.2.1 c) k = _
  rw [if_neg c5]
  rfl
/-! what is done to it -/
theorem WS.uses (h : WS q σ0 σm0 σ σm) (a r : Int32) : ∃ v σ' σm', (v = 0 ∨ v = 1) ∧ fX2_uses q a r σ = some (v, σ') ∧ fX6_uses r a σm = some (v, σm') ∧ WS q σ0 σm0 σ' σm' ∧ (∀ c, gA σm' 10 c = gA σm 10 c) := by
  have e8 : gI σ q 8 = gI σm 0 27 := h.T (p := (8, 27)) (by decide)
  have hb := h.2.1.2.2.2.2.2.2.1
  have cool : ∃ σ' σm', fX2_cools q a σ = some σ' ∧ fX6_uses_11 a σm = some (0, σm') ∧ WS q σ0 σm0 σ' σm' ∧ (∀ c, gA σm' 10 c = gA σm 10 c) := by
    have w1 := h.setF (p := (13, 33)) (by decide) (by decide) (by decide) (gI σm 0 33 + 1)
    have w2 := w1.setF (p := (19, 40)) (by decide) (by decide) (by decide) (gI σm 0 40 ||| (1 <<< (a &&& 31)))
    refine ⟨_, _, ?_, ?_, w2, fun c => rfl⟩
    · unfold fX2_cools
      rw [letB_t, letB_t, h.T (p := (13, 33)) (by decide), w1.T (p := (19, 40)) (by decide)]
      rfl
    · unfold fX6_uses_11
      rw [letB_t, letB_t]
      rfl
  obtain ⟨σ1, m1, c1, c2, c3, c4⟩ := cool
  unfold fX2_uses fX6_uses
  rw [e8]
  by_cases z : gI σm 0 27 = 0
  · rw [if_pos z, if_pos z, c1, c2, bn1_s]
    exact ⟨0, _, _, Or.inl rfl, rfl, rfl, c3, c4⟩
  · rw [if_neg z, if_neg z]
    by_cases z2 : r = 0
    · rw [if_pos z2, if_pos z2, c1, c2, bn1_s]
      exact ⟨0, _, _, Or.inl rfl, rfl, rfl, c3, c4⟩
    · rw [if_neg z2, if_neg z2]
      have hx : 0 ≤ (gI σm 0 27 - 1).toInt ∧ (gI σm 0 27 - 1).toInt ≤ 4 := by
        have z' : (gI σm 0 27).toInt ≠ 0 := fun y => z (Int32.toInt_inj.mp y)
        rw [ti_sub (by rw [(by decide : (1 : Int32).toInt = 1)]; omega) (by rw [(by decide : (1 : Int32).toInt = 1)]; omega), (by decide : (1 : Int32).toInt = 1)]
        omega
      have w1 := h.setI (p := (8, 27)) (by decide) (gI σm 0 27 - 1) (fun _ => hx) (fun y => absurd y (by decide))
      have w2 := w1.setF (p := (10, 30)) (by decide) (by decide) (by decide) (gI σm 0 30 + 1)
      refine ⟨1, _, _, Or.inr rfl, ?_, ?_, w2, fun c => rfl⟩
      · rw [letB_t, letB_t, w1.T (p := (10, 30)) (by decide)]
        rfl
      · rw [letB_t, letB_t]
        rfl
theorem WS.lose (h : WS q σ0 σm0 σ σm) {k : Nat} (hk : (k : Int) < (gA σm 2 0).toInt) : ∃ σ' σm', fX2_scales q (I k) σ = some σ' ∧ fX6_lose (I k) σm = some σm' ∧ WS q σ0 σm0 σ' σm' := by
  have h5 := h.2.1.2.2.1.1.2
  obtain ⟨e1, e2, e3⟩ := h.2.1.2.2.2.1 k hk
  unfold fX2_scales fX6_lose
  rw [ckB_t (I_in (by omega) (by omega)), ckB_t (I_in (by omega) (by omega)), I_cl (by omega), e1, ckB_t (I_in (by omega) (by omega)), ckB_t (I_in (by omega) (by omega)), ckB_t (I_in (by omega) (by omega)), ckB_t (I_in (by omega) (by omega))]
  by_cases z : gA σm 10 k = 1
  · rw [if_pos z, if_pos (by rw [z]; decide)]
    exact ⟨_, _, rfl, rfl, h⟩
  · have z' : (gA σm 10 k).toInt ≠ 1 := fun y => z (Int32.toInt_inj.mp y)
    rw [if_neg z, if_neg (by rw [le_ti, (by decide : (1 : Int32).toInt = 1)]; omega)]
    have hx : 1 ≤ (gA σm 10 k - 1).toInt ∧ (gA σm 10 k - 1).toInt ≤ 9 := by
      rw [ti_sub (by rw [(by decide : (1 : Int32).toInt = 1)]; omega) (by rw [(by decide : (1 : Int32).toInt = 1)]; omega), (by decide : (1 : Int32).toInt = 1)]
      omega
    have w1 := h.setIron (c := k) hx
    have w2 := w1.setF (p := (14, 34)) (by decide) (by decide) (by decide) (gI σm 0 34 + 1)
    refine ⟨_, _, ?_, ?_, w2⟩
    · rw [letB_t, letB_t, w1.T (p := (14, 34)) (by decide)]
      rfl
    · rw [letB_t, letB_t]
      rfl
end WS
