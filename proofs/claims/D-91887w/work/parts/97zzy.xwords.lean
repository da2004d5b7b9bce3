/-! the plain law: the Reader's small words; trees that stay -/
set_option maxRecDepth 100000
theorem rg.up {lo lo' hi hi' : Nat} (h1 : lo' ≤ lo) (h2 : hi ≤ hi') : ∀ c, rg lo hi c → rg lo' hi' c := fun _ h => ⟨Nat.le_trans h1 h.1, Nat.lt_of_lt_of_le h.2 h2⟩
theorem SumC.s {F : Nat → Prop} {σ : St} {sh : Nat → Sh} : ∀ (n a : Nat) (c : List (Int32 × Int32)), SumC F σ sh n a c → SumC F σ sh (n + 1) a c := by
  intro n
  induction n with
  | zero => intro a c h; exact h.elim
  | succ n ih =>
    intro a c h
    obtain ⟨hF, h⟩ := h
    refine ⟨hF, ?_⟩
    rcases h with h | h | ⟨b, d, h1, h2, h3⟩ | ⟨h0, b1, b2, d1, d2, h1, h2, h3, h4, h5⟩
    · exact Or.inl h
    · exact Or.inr (Or.inl h)
    · exact Or.inr (Or.inr (Or.inl ⟨b, d, h1, ih _ _ h2, h3⟩))
    · exact Or.inr (Or.inr (Or.inr ⟨h0, b1, b2, d1, d2, h1, h2, ih _ _ h3, ih _ _ h4, h5⟩))
theorem SumC.up {F : Nat → Prop} {σ : St} {sh : Nat → Sh} {n n' a : Nat} {c : List (Int32 × Int32)} (h : SumC F σ sh n a c) (hn : n ≤ n') : SumC F σ sh n' a c := by
  obtain ⟨k, rfl⟩ := Nat.exists_eq_add_of_le hn
  clear hn
  induction k with
  | zero => exact h
  | succ k ih => exact SumC.s _ _ _ ih
theorem TestC.s {F : Nat → Prop} {σ : St} {sh : Nat → Sh} : ∀ (n a : Nat) (c : List (Int32 × Int32)), TestC F σ sh n a c → TestC F σ sh (n + 1) a c := by
  intro n
  induction n with
  | zero => intro a c h; exact h.elim
  | succ n ih =>
    intro a c h
    obtain ⟨m, d, hm, hF, h⟩ := h
    refine ⟨m, d, hm, hF, ?_⟩
    rcases h with h | ⟨h0, b, d, h1, h2, h3⟩ | ⟨h0, l, e, ds, h1, h2, h3, h4, h5, h6, h7⟩
    · exact Or.inl h
    · exact Or.inr (Or.inl ⟨h0, b, d, h1, ih _ _ h2, h3⟩)
    · refine Or.inr (Or.inr ⟨h0, l, e, ds, h1, h2, h3, h4, h5, fun i d hi => ?_, h7⟩)
      obtain ⟨b, q1, q2⟩ := h6 i d hi
      exact ⟨b, q1, ih _ _ q2⟩
theorem TestC.up {F : Nat → Prop} {σ : St} {sh : Nat → Sh} {n n' a : Nat} {c : List (Int32 × Int32)} (h : TestC F σ sh n a c) (hn : n ≤ n') : TestC F σ sh n' a c := by
  obtain ⟨k, rfl⟩ := Nat.exists_eq_add_of_le hn
  clear hn
  induction k with
  | zero => exact h
  | succ k ih => exact TestC.s _ _ _ ih
theorem SumC.F0 {F : Nat → Prop} {σ : St} {sh : Nat → Sh} {n a : Nat} {c : List (Int32 × Int32)} (h : SumC F σ sh n a c) : F a := by
  cases n with
  | zero => exact h.elim
  | succ n => exact h.1
theorem TestC.F0 {F : Nat → Prop} {σ : St} {sh : Nat → Sh} {n a : Nat} {c : List (Int32 × Int32)} (h : TestC F σ sh n a c) : F a := by
  cases n with
  | zero => exact h.elim
  | succ n => obtain ⟨m, d, hm, hF, h⟩ := h; exact hF
section XT
variable {a lo hi hi' m b t : Nat} {c : Cd} {σ σ' : St} {η η' : Eta} {sh : Nat → Sh}
theorem SumC.xf (h : SumC (rg lo hi) σ η.1 m b c) (hhi : hi ≤ η.2.1) (ha : a < lo) (f : xF a σ η σ' η') : SumC (rg lo hi) σ' η'.1 m b c :=
  SumC.fr (fun k hk => f.2.2.1 k (Nat.lt_of_lt_of_le hk.2 hhi) (by have := hk.1; omega)) (fun k hk => f.1.2.2.1 k (Nat.lt_of_lt_of_le hk.2 hhi)) _ _ _ h
theorem TestC.xf (h : TestC (rg lo hi) σ η.1 m b c) (hhi : hi ≤ η.2.1) (ha : a < lo) (f : xF a σ η σ' η') : TestC (rg lo hi) σ' η'.1 m b c :=
  TestC.fr (fun k hk => f.2.2.1 k (Nat.lt_of_lt_of_le hk.2 hhi) (by have := hk.1; omega)) (fun k hk => f.1.2.2.1 k (Nat.lt_of_lt_of_le hk.2 hhi)) _ _ _ h
theorem SumC.wr (h : SumC (rg lo hi) σ sh m b c) (ht : t < lo ∨ hi ≤ t) (g : ∀ c, c ≠ t → agc σ σ' c) : SumC (rg lo hi) σ' sh m b c :=
  SumC.fr (fun k hk => g k (by have := hk.1; have := hk.2; omega)) (fun _ _ => rfl) _ _ _ h
theorem TestC.wr (h : TestC (rg lo hi) σ sh m b c) (ht : t < lo ∨ hi ≤ t) (g : ∀ c, c ≠ t → agc σ σ' c) : TestC (rg lo hi) σ' sh m b c :=
  TestC.fr (fun k hk => g k (by have := hk.1; have := hk.2; omega)) (fun _ _ => rfl) _ _ _ h
end XT
/-! need, opens, closes by the number of their word -/
noncomputable def gNd (i a : Nat) (σ : St) (η : Eta) : Option ((St × Eta) ⊕ (Nat × St × Eta)) := ckF (ckS (η.1 a) xD7 (bn3 (gTk i a σ η) (fun r σ2 η3 => if r = 0 then gFl a η3.2.1 (aS σ2 η3.2.1) (aE η3 xD8 7) else some (.inl (σ2, η3)))))
theorem nd_17 : fX7_need_cS17 = gNd 17 := rfl
theorem nd_8 : fX7_need_cS8 = gNd 8 := rfl
theorem nd_10 : fX7_need_cS10 = gNd 10 := rfl
theorem nd_18 : fX7_need_cS18 = gNd 18 := rfl
noncomputable def gOp (i a : Nat) (σ : St) (η : Eta) : Option ((St × Eta) ⊕ (Nat × St × Eta)) := ckF (ckS (η.1 a) xD7 (bn3 (gIs i a σ η) (fun r σ2 η3 => if r = 0 then gFl a η3.2.1 (aS σ2 η3.2.1) (aE η3 xD8 7) else ckS (η3.1 a) xD7 (if gI σ2 a 6 = 8 then gFl a η3.2.1 (aS σ2 η3.2.1) (aE η3 xD8 7) else ckS (η3.1 a) xD7 (ckS (η3.1 a) xD7 (letB (pI σ2 a 6 (gI σ2 a 6 + 1)) (fun σ6 => ckS (η3.1 a) xD7 (bn2 (fX7_next a σ6 η3) (fun σ8 η9 => some (.inl (σ8, η9)))))))))))
theorem op_7 : fX7_opens_cS7 = gOp 7 := rfl
theorem op_9 : fX7_opens_cS9 = gOp 9 := rfl
noncomputable def gCl (i a : Nat) (σ : St) (η : Eta) : Option ((St × Eta) ⊕ (Nat × St × Eta)) := ckF (ckS (η.1 a) xD7 (bx2 (gNd i a σ η) (fun q5 σ6 η7 => some (.inr (q5, σ6, η7))) (fun σ2 η3 => ckS (η3.1 a) xD7 (ckS (η3.1 a) xD7 (letB (pI σ2 a 6 (gI σ2 a 6 - 1)) (fun σ3 => some (.inl (σ3, η3))))))))
theorem cl_8 : fX7_closes_cS8 = gCl 8 := rfl
theorem cl_10 : fX7_closes_cS10 = gCl 10 := rfl
noncomputable def gIn (o cl : Nat) (FS : Nat → St → Eta → Option ((Nat × St × Eta) ⊕ (Nat × St × Eta))) (a : Nat) (σ : St) (η : Eta) : Option ((Nat × St × Eta) ⊕ (Nat × St × Eta)) := ckF (ckS (η.1 a) xD7 (bx2 (gOp o a σ η) (fun q5 σ6 η7 => some (.inr (q5, σ6, η7))) (fun σ2 η3 => ckS (η3.1 a) xD7 (bx3 (FS a σ2 η3) (fun q5 σ6 η7 => some (.inr (q5, σ6, η7))) (fun r σ2 η3 => ckS (η3.1 a) xD7 (bx2 (gCl cl a σ2 η3) (fun q5 σ6 η7 => some (.inr (q5, σ6, η7))) (fun σ2 η3 => some (.inl (r, σ2, η3)))))))))
theorem in_78 : fX7_inside_cS7_cS8 = gIn 7 8 := rfl
theorem in_910 : fX7_inside_cS9_cS10 = gIn 9 10 := rfl
section XO
variable {T : Nat → Int32} {n a : Nat} {σ σ' σ1 : St} {η η' η1 : Eta} {s s' s1 : SP}
theorem XR.nd (h : XR T n a s σ η) {i : Nat} (hi : i < 27) : (iS T i s = true ∧ ∃ σ', gNd i a σ η = some (.inl (σ', η)) ∧ XG T n a s σ η (nxS T n s) σ' η) ∨ (iS T i s = false ∧ gNd i a σ η = some (.inr (η.2.1, flt σ η.2.1 s.1, aE η xD8 7))) := by
  unfold gNd
  rw [ckS_t h.sa, h.tk hi]
  by_cases z : iS T i s = true
  · refine Or.inl ⟨z, _, ?_, h.nx.2⟩
    rw [if_pos z, bn3_s, if_neg (by decide)]
    rfl
  · refine Or.inr ⟨Bool.eq_false_iff.mpr z, ?_⟩
    rw [if_neg z, bn3_s, if_pos rfl, h.fl.1]
    exact ckF_t (aE_n _ _ _)
theorem XR.op (h : XR T n a s σ η) {i : Nat} (hi : i < 27) : ((iS T i s = true ∧ s.2.2.2 ≠ 8) ∧ ∃ σ', gOp i a σ η = some (.inl (σ', η)) ∧ XG T n a s σ η (nxF T n s.2.1, nxT T n s.2.1, s.2.2.1, s.2.2.2 + 1) σ' η) ∨ (¬ (iS T i s = true ∧ s.2.2.2 ≠ 8) ∧ gOp i a σ η = some (.inr (η.2.1, flt σ η.2.1 s.1, aE η xD8 7))) := by
  have hd := h.2.2.1.2
  unfold gOp
  rw [ckS_t h.sa, h.is hi]
  by_cases z : iS T i s = true
  · rw [if_pos z, bn3_s, if_neg (by decide), ckS_t h.sa, h.2.2.1.1]
    by_cases y : s.2.2.2 = 8
    · refine Or.inr ⟨fun q => q.2 y, ?_⟩
      rw [if_pos (show I s.2.2.2 = 8 by rw [y]; rfl), h.fl.1]
      exact ckF_t (aE_n _ _ _)
    · have h' : XR T n a (s.1, s.2.1, s.2.2.1, s.2.2.2 + 1) (pI σ a 6 (I (s.2.2.2 + 1))) η := h.go (s' := (s.1, s.2.1, s.2.2.1, s.2.2.2 + 1)) ⟨EX.rf, h.2.2.2, fun c _ ca => agc.pI ca, fun k _ _ _ a4 => by rw [gI_pI, if_neg (fun q => a4 q.2)], fun _ => rfl, fun _ => rfl⟩ h.oks ((gI_pI ..).trans (by rw [if_neg (by omega)]; exact h.1.2.2.2.2.1)) ((gI_pI ..).trans (by rw [if_neg (by omega)]; exact h.1.2.2.2.2.2)) ⟨(gI_pI ..).trans (by rw [if_neg (by omega)]; exact h.2.1.1), h.2.1.2⟩ ⟨if_pos ⟨rfl, rfl⟩, by show s.2.2.2 + 1 ≤ 8; omega⟩
      obtain ⟨e1, e2⟩ := h'.nx
      refine Or.inl ⟨⟨z, y⟩, rS (pI σ a 6 (I (s.2.2.2 + 1))) a (nxF T n s.2.1) (nxT T n s.2.1), ?_, ?_⟩
      · rw [if_neg (show ¬ I s.2.2.2 = 8 from fun q => y ((I_eq (b := 8) (by omega) (by omega)).mp q)), ckS_t h.sa, ckS_t h.sa, letB_t, ckS_t h.sa, show I s.2.2.2 + 1 = I (s.2.2.2 + 1) from I_add _ 1, e1, bn2_s]
        rfl
      · obtain ⟨g1, g2, g3, g4⟩ := e2
        refine ⟨g1, xF.tr (σ' := pI σ a 6 (I (s.2.2.2 + 1))) (η' := η) ⟨EX.rf, h.2.2.2, fun c _ ca => agc.pI ca, fun k _ _ _ a4 => by rw [gI_pI, if_neg (fun q => a4 q.2)], fun _ => rfl, fun _ => rfl⟩ g2, g3, g4⟩
  · refine Or.inr ⟨fun q => z q.1, ?_⟩
    rw [if_neg z, bn3_s, if_pos rfl, h.fl.1]
    exact ckF_t (aE_n _ _ _)
theorem XR.cl (h : XR T n a s σ η) (hd : 1 ≤ s.2.2.2) {i : Nat} (hi : i < 27) : (iS T i s = true ∧ ∃ σ', gCl i a σ η = some (.inl (σ', η)) ∧ XG T n a s σ η (nxF T n s.2.1, nxT T n s.2.1, s.2.2.1, s.2.2.2 - 1) σ' η) ∨ (iS T i s = false ∧ gCl i a σ η = some (.inr (η.2.1, flt σ η.2.1 s.1, aE η xD8 7))) := by
  have hd8 := h.2.2.1.2
  unfold gCl
  rw [ckS_t h.sa]
  rcases h.nd hi with ⟨z, σ1, e1, e2⟩ | ⟨z, e1⟩
  · obtain ⟨g1, g2, g3, g4⟩ := e2
    have hd1 : gI σ1 a 6 = I s.2.2.2 := g1.2.2.1.1
    have f : xF a σ1 η (pI σ1 a 6 (I (s.2.2.2 - 1))) η := ⟨EX.rf, h.2.2.2, fun c _ ca => agc.pI ca, fun k _ _ _ a4 => by rw [gI_pI, if_neg (fun q => a4 q.2)], fun _ => rfl, fun _ => rfl⟩
    refine Or.inl ⟨z, pI σ1 a 6 (I (s.2.2.2 - 1)), ?_, ?_, g2.tr f, g3, g4⟩
    · rw [e1, bx2_l, ckS_t h.sa, ckS_t h.sa, letB_t, hd1, show I s.2.2.2 - 1 = I (s.2.2.2 - 1) from I_sub (b := 1) hd (by omega)]
      rfl
    · exact g1.go (s' := (nxF T n s.2.1, nxT T n s.2.1, s.2.2.1, s.2.2.2 - 1)) f g1.oks ((gI_pI ..).trans (by rw [if_neg (by omega)]; exact g1.1.2.2.2.2.1)) ((gI_pI ..).trans (by rw [if_neg (by omega)]; exact g1.1.2.2.2.2.2)) ⟨(gI_pI ..).trans (by rw [if_neg (by omega)]; exact g1.2.1.1), g1.2.1.2⟩ ⟨if_pos ⟨rfl, rfl⟩, by show s.2.2.2 - 1 ≤ 8; omega⟩
  · refine Or.inr ⟨z, ?_⟩
    rw [e1, bx2_r]
    exact ckF_t (aE_n _ _ _)
/-- what stands between two brackets -/
theorem XR.ins {o cl : Nat} (ho : o < 27) (hcl : cl < 27) {FS : Nat → St → Eta → Option ((Nat × St × Eta) ⊕ (Nat × St × Eta))} {fS : SP → RP} (hg : pgP T n fS) {good : Eta → SP → Cd → SP → Nat → St → Eta → Prop} (h : XR T n a s σ η)
    (hFS : ∀ σ', XG T n a s σ η (nxF T n s.2.1, nxT T n s.2.1, s.2.2.1, s.2.2.2 + 1) σ' η → RunX T n a (nxF T n s.2.1, nxT T n s.2.1, s.2.2.1, s.2.2.2 + 1) σ' η (fS (nxF T n s.2.1, nxT T n s.2.1, s.2.2.1, s.2.2.2 + 1)) (FS a σ' η) (fun c s' b σ' η' => ∀ σ'' : St, xF a σ' η' σ'' η' → good η s c (nxF T n s'.2.1, nxT T n s'.2.1, s'.2.2.1, s'.2.2.2 - 1) b σ'' η')) :
    RunX T n a s σ η (inP T n o cl fS s) (gIn o cl FS a σ η) (good η s) := by
  have hk := h.oks
  have hnx := nxS_ok hk (s.2.2.1, s.2.2.2 + 1)
  have l0 : s.1 ≤ nxF T n s.2.1 := by have := hk.1; have := hnx.2; omega
  unfold inP gIn
  rw [ckS_t h.sa]
  rcases h.op ho with ⟨z, σ1, e1, e2⟩ | ⟨z, e1⟩
  · rw [if_pos z, e1, bx2_l, ckS_t h.sa]
    rcases hFS σ1 e2 with ⟨q, k, σ2, η2, r1, r2, r3⟩ | ⟨c, s2, b, σ2, η2, r1, r2, r3, r4⟩
    · refine Or.inl ⟨q, k, σ2, η2, by rw [r1]; rfl, ?_, e2.bd l0 r3⟩
      rw [r2, bx3_r]
      exact ckF_t r3.2.1
    · obtain ⟨g1, g2, g3, g4, g5, g6⟩ := hg _ _ _ hnx.1 h.2.1.2 r1
      rw [r1, r2, bx3_l]
      have hx2 := r3.1
      rw [ckS_t hx2.sa]
      have l2 : s.1 ≤ s2.1 := by have g2' : nxF T n s.2.1 + c.length ≤ s2.1 := g2; omega
      have e3 := e2.tr r3
      rcases hx2.cl (by rw [g5]; exact Nat.le_add_left 1 _) hcl with ⟨y, σ3, t1, t2⟩ | ⟨y, t1⟩
      · refine Or.inr ⟨c, _, b, σ3, η2, if_pos y, ?_, e3.tr t2, r4 _ t2.2.1⟩
        rw [t1, bx2_l]; rfl
      · refine Or.inl ⟨s2.1, _, _, _, if_neg (by rw [y]; decide), ?_, e3.bd l2 (hx2.fl (α := Unit)).2⟩
        rw [t1, bx2_r]
        exact ckF_t (aE_n _ _ _)
  · refine Or.inl ⟨s.1, _, _, _, if_neg z, ?_, (h.fl (α := Unit)).2⟩
    rw [e1, bx2_r]
    exact ckF_t (aE_n _ _ _)
/-- the word that is told -/
theorem XR.td (h : XR T n a s σ η) : fX7_told a σ η = some (I (tdP T s) - 1, σ, η) := by
  have hA := h.2.2.2
  have hs := h.sa
  have i2 : fX7_is_cS2 a σ η = _ := h.is (i := 2) (by decide)
  have i3 : fX7_is_cS3 a σ η = _ := h.is (i := 3) (by decide)
  have i4 : fX7_is_cS4 a σ η = _ := h.is (i := 4) (by decide)
  have i5 : fX7_is_cS5 a σ η = _ := h.is (i := 5) (by decide)
  unfold fX7_told fX7_told_0 tdP
  rw [hA.x, ckS_t hs, i2, bn3_s]
  unfold fX7_told_6
  rw [hA.x]
  by_cases z2 : iS T 2 s = true
  · rw [if_pos z2, if_pos z2, if_neg (by decide)]; rfl
  rw [if_neg z2, if_neg z2, if_pos rfl, ckS_t hs, i3, bn3_s]
  unfold fX7_told_17
  rw [hA.x]
  by_cases z3 : iS T 3 s = true
  · rw [if_pos z3, if_pos z3, if_neg (by decide)]; rfl
  rw [if_neg z3, if_neg z3, if_pos rfl, ckS_t hs, i4, bn3_s]
  unfold fX7_told_28
  rw [hA.x]
  by_cases z4 : iS T 4 s = true
  · rw [if_pos z4, if_pos z4, if_neg (by decide)]; rfl
  rw [if_neg z4, if_neg z4, if_pos rfl, ckS_t hs, i5, bn3_s]
  unfold fX7_told_39
  rw [hA.x]
  by_cases z5 : iS T 5 s = true
  · rw [if_pos z5, if_pos z5, if_neg (by decide)]; rfl
  · rw [if_neg z5, if_neg z5, if_pos rfl]; rfl
end XO
