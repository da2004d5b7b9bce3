/-! the plain law: where the Reader stands -/
set_option maxRecDepth 100000
def rg (lo hi : Nat) : Nat → Prop := fun c => lo ≤ c ∧ c < hi
/-- what stays while the Reader a reads -/
def xF (a : Nat) (σ : St) (η : Eta) (σ' : St) (η' : Eta) : Prop := EX η η' ∧ AOK η' ∧ (∀ c, c < η.2.1 → c ≠ a → agc σ σ' c) ∧ (∀ k, k ≠ 3 → k ≠ 4 → k ≠ 5 → k ≠ 6 → gI σ' a k = gI σ a k) ∧ (∀ k, gA σ' a k = gA σ a k) ∧ ∀ k, gR σ' a k = gR σ a k
theorem xF.rf {a : Nat} {σ : St} {η : Eta} (h : AOK η) : xF a σ η σ η := ⟨EX.rf, h, fun _ _ _ => agc.rf, fun _ _ _ _ _ => rfl, fun _ => rfl, fun _ => rfl⟩
theorem xF.tr {a : Nat} {σ σ' σ'' : St} {η η' η'' : Eta} (h : xF a σ η σ' η') (h' : xF a σ' η' σ'' η'') : xF a σ η σ'' η'' :=
  ⟨h.1.tr h'.1, h'.2.1, fun c hc ha => (h.2.2.1 c hc ha).tr (h'.2.2.1 c (Nat.lt_of_lt_of_le hc h.1.1) ha), fun k a1 a2 a3 a4 => (h'.2.2.2.1 k a1 a2 a3 a4).trans (h.2.2.2.1 k a1 a2 a3 a4), fun k => (h'.2.2.2.2.1 k).trans (h.2.2.2.2.1 k), fun k => (h'.2.2.2.2.2 k).trans (h.2.2.2.2.2 k)⟩
/-- a write into a cell made meanwhile -/
theorem xF.wr {a t : Nat} {σ σ' σ'' : St} {η η' : Eta} (h : xF a σ η σ' η') (ha : a < η.2.1) (ht : η.2.1 ≤ t) (g : ∀ c, c ≠ t → agc σ' σ'' c) : xF a σ η σ'' η' := by
  have ga := g a (by omega)
  exact ⟨h.1, h.2.1, fun c hc ca => (h.2.2.1 c hc ca).tr (g c (by omega)), fun k a1 a2 a3 a4 => (ga.1 k).trans (h.2.2.2.1 k a1 a2 a3 a4), fun k => (ga.2.1 k).trans (h.2.2.2.2.1 k), fun k => (ga.2.2 k).trans (h.2.2.2.2.2 k)⟩
/-- a cell is made -/
theorem xF.al {a : Nat} {σ σ' : St} {η : Eta} {q : Sh} {z : Nat} (h : AOK η) (ha : a < η.2.1) (hq : q.1 ≠ 9) (g : ∀ c, c ≠ η.2.1 → agc σ σ' c) : xF a σ η σ' (aE η q z) := by
  have ga := g a (by omega)
  exact ⟨EX.aE hq, h.aE hq, fun c hc ca => g c (by omega), fun k _ _ _ _ => ga.1 k, fun k => ga.2.1 k, fun k => ga.2.2 k⟩
/-- the Reader a at s -/
def XR (T : Nat → Int32) (n a : Nat) (s : SP) (σ : St) (η : Eta) : Prop := AtX T n s.1 s.2.1 σ η a ∧ (gI σ a 5 = I s.2.2.1 ∧ s.2.2.1 ≤ 60) ∧ (gI σ a 6 = I s.2.2.2 ∧ s.2.2.2 ≤ 8) ∧ AOK η
/-- it went on to s', nothing wrong -/
def XG (T : Nat → Int32) (n a : Nat) (s : SP) (σ : St) (η : Eta) (s' : SP) (σ' : St) (η' : Eta) : Prop := XR T n a s' σ' η' ∧ xF a σ η σ' η' ∧ η'.2.1 + 40 * s.1 ≤ η.2.1 + 40 * s'.1 ∧ η'.2.2 + 140 * s.1 ≤ η.2.2 + 140 * s'.1
/-- the Fault k was thrown at q -/
def XBd (a : Nat) (s : SP) (σ : St) (η : Eta) (q k : Nat) (σ' : St) (η' : Eta) : Prop := xF a σ η σ' η' ∧ η'.1 k = xD8 ∧ gI σ' k 6 = I q ∧ s.1 ≤ q ∧ q ≤ 400 ∧ η'.2.1 + 40 * s.1 ≤ η.2.1 + 40 * q + 10 ∧ η'.2.2 + 140 * s.1 ≤ η.2.2 + 140 * q + 50
/-- what a reading ends with -/
def RunX (T : Nat → Int32) (n a : Nat) (s : SP) (σ : St) (η : Eta) (r : RP) (o : Option ((Nat × St × Eta) ⊕ (Nat × St × Eta))) (good : Cd → SP → Nat → St → Eta → Prop) : Prop :=
  (∃ q k σ' η', r = .inl q ∧ o = some (.inr (k, σ', η')) ∧ XBd a s σ η q k σ' η') ∨ ∃ c s' b σ' η', r = .inr (c, s') ∧ o = some (.inl (b, σ', η')) ∧ XG T n a s σ η s' σ' η' ∧ good c s' b σ' η'
section XS
variable {T : Nat → Int32} {n a : Nat} {σ σ' σ1 : St} {η η' η1 : Eta} {s s' s1 : SP}
theorem XR.oks (h : XR T n a s σ η) : okS T n s := ⟨h.1.2.1, h.1.2.2.1, h.1.2.2.2.1⟩
theorem XR.n4 (h : XR T n a s σ η) : n ≤ 400 := h.1.1.1
theorem XR.sa (h : XR T n a s σ η) : η.1 a = xD7 := h.1.1.2.2.1
theorem XR.s4 (h : XR T n a s σ η) : s.1 ≤ 400 := by have := h.n4; have := h.oks.1; have := h.oks.2.2; omega
theorem AOK.lt (h : AOK η) {k : Nat} (hk : (η.1 k).1 ≠ 9) : k < η.2.1 := by
  rcases Nat.lt_or_ge k η.2.1 with z | z
  · exact z
  · exact absurd (h.2.1 k z) hk
theorem XR.al (h : XR T n a s σ η) : a < η.2.1 := h.2.2.2.lt (by rw [h.sa]; decide)
theorem XR.go (h : XR T n a s σ η) (f : xF a σ η σ' η') (hs : okS T n s') (h3 : gI σ' a 3 = I s'.1) (h4 : gI σ' a 4 = I s'.2.1) (h5 : gI σ' a 5 = I s'.2.2.1 ∧ s'.2.2.1 ≤ 60) (h6 : gI σ' a 6 = I s'.2.2.2 ∧ s'.2.2.2 ≤ 8) : XR T n a s' σ' η' := by
  have hal := h.al
  obtain ⟨⟨⟨a1, a2, a3, a4, a5, a6, a7⟩, -⟩, -, -, hA⟩ := h
  obtain ⟨f1, f2, f3, f4, f5, f6⟩ := f
  have h11 : (11 : Nat) ≠ a := fun e => by rw [← e, a4] at a3; exact absurd a3 (by decide)
  have e11 := f3 11 (by have := hA.2.2; omega) h11
  exact ⟨⟨⟨a1, f2.1, (f1.2.2.1 a hal).trans a3, (f1.2.2.1 11 (by have := hA.2.2; omega)).trans a4, (f6 0).trans a5, (f4 1 (by decide) (by decide) (by decide) (by decide)).trans a6, fun i hi => (e11.2.1 i).trans (a7 i hi)⟩, hs.1, hs.2.1, hs.2.2, h3, h4⟩, h5, h6, f2⟩
theorem XR.fr (h : XR T n a s σ η) (f : xF a σ η σ' η') (g : ∀ k, gI σ' a k = gI σ a k) : XR T n a s σ' η' := h.go f h.oks ((g 3).trans h.1.2.2.2.2.1) ((g 4).trans h.1.2.2.2.2.2) ⟨(g 5).trans h.2.1.1, h.2.1.2⟩ ⟨(g 6).trans h.2.2.1.1, h.2.2.1.2⟩
/-- a cell is made -/
theorem XR.mk (h : XR T n a s σ η) {q : Sh} {z : Nat} (hq : q.1 ≠ 9) (g : ∀ c, c ≠ η.2.1 → agc σ σ' c) : XR T n a s σ' (aE η q z) ∧ xF a σ η σ' (aE η q z) := by
  have hal := h.al
  have f := xF.al (z := z) h.2.2.2 hal hq g
  exact ⟨h.fr f (g a (by omega)).1, f⟩
theorem XR.wr {t : Nat} (h : XR T n a s σ η) (ht : t ≠ a) (h54 : 54 ≤ t) (g : ∀ c, c ≠ t → agc σ σ' c) : XR T n a s σ' η := by
  obtain ⟨⟨⟨a1, a2, a3, a4, a5, a6, a7⟩, b1, b2, b3, b4, b5⟩, c1, c2, hA⟩ := h
  have ga := g a (Ne.symm ht)
  exact ⟨⟨⟨a1, a2, a3, a4, (ga.2.2 0).trans a5, (ga.1 1).trans a6, fun i hi => ((g 11 (by omega)).2.1 i).trans (a7 i hi)⟩, b1, b2, b3, (ga.1 3).trans b4, (ga.1 4).trans b5⟩, ⟨(ga.1 5).trans c1.1, c1.2⟩, ⟨(ga.1 6).trans c2.1, c2.2⟩, hA⟩
theorem XG.rf (h : XR T n a s σ η) : XG T n a s σ η s σ η := ⟨h, xF.rf h.2.2.2, Nat.le_refl _, Nat.le_refl _⟩
theorem XG.tr (h : XG T n a s σ η s1 σ1 η1) (h' : XG T n a s1 σ1 η1 s' σ' η') : XG T n a s σ η s' σ' η' := by
  obtain ⟨a1, a2, a3, a4⟩ := h
  obtain ⟨b1, b2, b3, b4⟩ := h'
  exact ⟨b1, a2.tr b2, by omega, by omega⟩
theorem XG.bd (h : XG T n a s σ η s1 σ1 η1) (hs : s.1 ≤ s1.1) {q k : Nat} (h' : XBd a s1 σ1 η1 q k σ' η') : XBd a s σ η q k σ' η' := by
  obtain ⟨a1, a2, a3, a4⟩ := h
  obtain ⟨b1, b2, b3, b4, b5, b6, b7⟩ := h'
  exact ⟨a2.tr b1, b2, b3, by omega, b5, by omega, by omega⟩
/-- a Fault at the sign -/
noncomputable def gFl {α : Type} (a t : Nat) (σ : St) (η : Eta) : Option (α ⊕ (Nat × St × Eta)) := ckS (η.1 a) xD7 (bn2 (fX8_init t (gI σ a 3) σ η) (fun σ3 η4 => some (.inr (t, σ3, η4))))
theorem XR.fl {α : Type} (h : XR T n a s σ η) : (gFl a η.2.1 (aS σ η.2.1) (aE η xD8 7) : Option (α ⊕ (Nat × St × Eta))) = some (.inr (η.2.1, flt σ η.2.1 s.1, aE η xD8 7)) ∧ XBd a s σ η s.1 η.2.1 (flt σ η.2.1 s.1) (aE η xD8 7) := by
  have hal := h.al
  have n8 : (xD8 : Sh).1 ≠ 9 := by decide
  constructor
  · unfold gFl
    rw [ckS_t ((aE_o (by omega)).trans h.sa), gI_aS, if_neg (by omega), h.1.2.2.2.2.1, x_fault h.2.2.2, bn2_s]
  · refine ⟨(h.mk (z := 7) n8 (fun c hc => flt_c σ hc)).2, aE_n _ _ _, flt_6 _ _ _, Nat.le_refl _, h.s4, ?_, ?_⟩
    · show η.2.1 + 1 + _ ≤ _; omega
    · show η.2.2 + 7 + _ ≤ _; omega
theorem XR.nx (h : XR T n a s σ η) : fX7_next a σ η = some (rS σ a (nxF T n s.2.1) (nxT T n s.2.1), η) ∧ XG T n a s σ η (nxS T n s) (rS σ a (nxF T n s.2.1) (nxT T n s.2.1)) η := by
  obtain ⟨e1, e2⟩ := h.1.nx
  obtain ⟨k1, k2⟩ := nxS_ok h.oks s.2.2
  have f : xF a σ η (rS σ a (nxF T n s.2.1) (nxT T n s.2.1)) η := ⟨EX.rf, h.2.2.2, fun c _ ca => ⟨fun k => gI_rS _ _ _ _ _ _ (fun e => absurd e ca), fun _ => rfl, fun _ => rfl⟩, fun k a1 a2 _ _ => gI_rS _ _ _ _ _ _ (fun _ => ⟨a1, a2⟩), fun _ => rfl, fun _ => rfl⟩
  refine ⟨e1, ⟨e2, ⟨(gI_rS _ _ _ _ _ _ (fun _ => by decide)).trans h.2.1.1, h.2.1.2⟩, ⟨(gI_rS _ _ _ _ _ _ (fun _ => by decide)).trans h.2.2.1.1, h.2.2.1.2⟩, h.2.2.2⟩, f, ?_, ?_⟩
  · have := h.oks.1
    show η.2.1 + 40 * s.1 ≤ η.2.1 + 40 * nxF T n s.2.1
    omega
  · have := h.oks.1
    show η.2.2 + 140 * s.1 ≤ η.2.2 + 140 * nxF T n s.2.1
    omega
theorem XR.is (h : XR T n a s σ η) {i : Nat} (hi : i < 27) : gIs i a σ η = some (if iS T i s = true then 1 else 0, σ, η) := h.1.is hi
theorem XR.tk (h : XR T n a s σ η) {i : Nat} (hi : i < 27) : gTk i a σ η = if iS T i s = true then some (1, rS σ a (nxF T n s.2.1) (nxT T n s.2.1), η) else some (0, σ, η) := h.1.tk hi
/-- a leaf more -/
theorem XR.lv (h : XR T n a s σ η) : ∃ σ', XR T n a s σ η ∧ fX7_leaf a σ η = (if s.2.2.1 = 60 then some (.inr (η.2.1, flt σ η.2.1 s.1, aE η xD8 7)) else some (.inl (σ', η))) ∧ (s.2.2.1 ≠ 60 → XG T n a s σ η (lvS s) σ' η) := by
  have h60 := h.2.1.2
  refine ⟨pI σ a 5 (I (s.2.2.1 + 1)), h, ?_, fun hn => ?_⟩
  · unfold fX7_leaf fX7_leaf_0
    rw [ckS_t h.sa, h.2.1.1]
    by_cases z : s.2.2.1 = 60
    · rw [if_pos z, if_pos (show I s.2.2.1 = 60 by rw [z]; rfl)]
      show ckF (gFl a η.2.1 (aS σ η.2.1) (aE η xD8 7)) = _
      rw [h.fl.1]
      exact ckF_t (aE_n _ _ _)
    · rw [if_neg z, if_neg (show ¬ I s.2.2.1 = 60 from fun q => z ((I_eq (b := 60) (by omega) (by omega)).mp q)), ckS_t h.sa, ckS_t h.sa, letB_t, show I s.2.2.1 + 1 = I (s.2.2.1 + 1) from I_add _ 1]
      rfl
  · have f : xF a σ η (pI σ a 5 (I (s.2.2.1 + 1))) η := ⟨EX.rf, h.2.2.2, fun c _ ca => agc.pI ca, fun k _ _ a3 _ => by rw [gI_pI, if_neg (fun q => a3 q.2)], fun _ => rfl, fun _ => rfl⟩
    exact ⟨h.go (s' := lvS s) f h.oks ((gI_pI ..).trans (by rw [if_neg (by omega)]; exact h.1.2.2.2.2.1)) ((gI_pI ..).trans (by rw [if_neg (by omega)]; exact h.1.2.2.2.2.2)) ⟨if_pos ⟨rfl, rfl⟩, by show s.2.2.1 + 1 ≤ 60; omega⟩ ⟨(gI_pI ..).trans (by rw [if_neg (by omega)]; exact h.2.2.1.1), h.2.2.1.2⟩, f, Nat.le_refl _, Nat.le_refl _⟩
end XS
