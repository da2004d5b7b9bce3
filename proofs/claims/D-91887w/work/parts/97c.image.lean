/-! the plain law: image -/
set_option maxRecDepth 100000
def l8 (sc : Nat) (v : Nat → Nat) : List Nat := [sc, v 0, v 1, v 2, v 3, v 4, v 5, v 6]
theorem l8_nd {sc : Nat} {v : Nat → Nat} (hs : ∀ i, i < 7 → sc ≠ v i) (hv : ∀ i j, i < 7 → j < 7 → i ≠ j → v i ≠ v j) : (l8 sc v).Nodup := by
  unfold l8
  simp only [List.nodup_cons, List.mem_cons, List.not_mem_nil, or_false, not_or, not_false_eq_true, List.nodup_nil, and_true]
  exact ⟨⟨hs 0 (by omega), hs 1 (by omega), hs 2 (by omega), hs 3 (by omega), hs 4 (by omega), hs 5 (by omega), hs 6 (by omega)⟩, ⟨hv 0 1 (by omega) (by omega) (by omega), hv 0 2 (by omega) (by omega) (by omega), hv 0 3 (by omega) (by omega) (by omega), hv 0 4 (by omega) (by omega) (by omega), hv 0 5 (by omega) (by omega) (by omega), hv 0 6 (by omega) (by omega) (by omega)⟩, ⟨hv 1 2 (by omega) (by omega) (by omega), hv 1 3 (by omega) (by omega) (by omega), hv 1 4 (by omega) (by omega) (by omega), hv 1 5 (by omega) (by omega) (by omega), hv 1 6 (by omega) (by omega) (by omega)⟩, ⟨hv 2 3 (by omega) (by omega) (by omega), hv 2 4 (by omega) (by omega) (by omega), hv 2 5 (by omega) (by omega) (by omega), hv 2 6 (by omega) (by omega) (by omega)⟩, ⟨hv 3 4 (by omega) (by omega) (by omega), hv 3 5 (by omega) (by omega) (by omega), hv 3 6 (by omega) (by omega) (by omega)⟩, ⟨hv 4 5 (by omega) (by omega) (by omega), hv 4 6 (by omega) (by omega) (by omega)⟩, hv 5 6 (by omega) (by omega) (by omega)⟩
theorem l8_at {sc : Nat} {v : Nat → Nat} {i : Nat} (hi : i < 7) : (l8 sc v)[i + 1]? = some (v i) := by
  rcases (show i = 0 ∨ i = 1 ∨ i = 2 ∨ i = 3 ∨ i = 4 ∨ i = 5 ∨ i = 6 by omega) with rfl | rfl | rfl | rfl | rfl | rfl | rfl <;> rfl
theorem l8_in {sc : Nat} {v : Nat → Nat} {i : Nat} (hi : i < 7) : v i ∈ l8 sc v := List.mem_of_getElem? (l8_at hi)
theorem l8_iv {sc : Nat} {v : Nat → Nat} (h : (l8 sc v).Nodup) : (∀ i, i < 7 → sc ≠ v i) ∧ ∀ i j, i < 7 → j < 7 → i ≠ j → v i ≠ v j := by
  refine ⟨fun i hi q => ?_, fun i j hi hj hij q => ?_⟩
  · have := nd_inj h (i := 0) (j := i + 1) (k := sc) rfl (by rw [l8_at hi, q])
    omega
  · have := nd_inj h (i := i + 1) (j := j + 1) (k := v i) (l8_at hi) (by rw [l8_at hj, q])
    omega
theorem l8_mem {sc : Nat} {v : Nat → Nat} {c : Nat} (h : c ∈ l8 sc v) : c = sc ∨ ∃ i, i < 7 ∧ c = v i := by
  unfold l8 at h
  simp only [List.mem_cons, List.not_mem_nil, or_false] at h
  rcases h with h | h | h | h | h | h | h | h
  · exact Or.inl h
  · exact Or.inr ⟨0, by omega, h⟩
  · exact Or.inr ⟨1, by omega, h⟩
  · exact Or.inr ⟨2, by omega, h⟩
  · exact Or.inr ⟨3, by omega, h⟩
  · exact Or.inr ⟨4, by omega, h⟩
  · exact Or.inr ⟨5, by omega, h⟩
  · exact Or.inr ⟨6, by omega, h⟩
theorem nd_build {er ep : Nat} {A B : List Nat} (h0 : er ≠ ep) (h1 : er ∉ A) (h2 : er ∉ B) (h3 : ep ∉ A) (h4 : ep ∉ B) (h5 : A.Nodup) (h6 : B.Nodup) (h7 : ∀ a, a ∈ A → a ∉ B) : (er :: ep :: (A ++ B)).Nodup := by
  rw [List.nodup_cons, List.nodup_cons]
  refine ⟨fun z => ?_, fun z => ?_, List.nodup_append.mpr ⟨h5, h6, fun a ha b hb q => h7 a ha (by rw [q]; exact hb)⟩⟩
  · rw [List.mem_cons, List.mem_append] at z
    rcases z with z | z | z
    · exact h0 z
    · exact h1 z
    · exact h2 z
  · rw [List.mem_append] at z
    rcases z with z | z
    · exact h3 z
    · exact h4 z
theorem nd_split {er ep : Nat} {A B : List Nat} (h : (er :: ep :: (A ++ B)).Nodup) : er ≠ ep ∧ er ∉ A ∧ er ∉ B ∧ ep ∉ A ∧ ep ∉ B ∧ A.Nodup ∧ B.Nodup ∧ ∀ a, a ∈ A → a ∉ B := by
  rw [List.nodup_cons, List.nodup_cons, List.mem_cons, List.mem_append, List.mem_append] at h
  obtain ⟨h1, h2, h3⟩ := h
  obtain ⟨h4, h5, h6⟩ := List.nodup_append.mp h3
  exact ⟨fun z => h1 (Or.inl z), fun z => h1 (Or.inr (Or.inl z)), fun z => h1 (Or.inr (Or.inr z)), fun z => h2 (Or.inl z), fun z => h2 (Or.inr z), h4, h5, fun a ha hb => h6 a ha a hb rfl⟩
/-- what the image's State has: its own cells -/
def ImS (σ : St) (sh : Nat → Sh) (sc : Nat) (v : Nat → Nat) : Prop := sh sc = xD1 ∧ (∀ j, j < 5 → gR σ sc j = some (v j)) ∧ (sh (v 0) = (1, 0, 5, []) ∧ sh (v 1) = (1, 0, 5, []) ∧ sh (v 2) = (1, 0, 5, [])) ∧ (∃ k3, LstC σ sh (v 3) (v 5) k3 ∧ ∀ i, k3 ≤ i → gR σ (v 5) i = none) ∧ ∃ k4, LstC σ sh (v 4) (v 6) k4 ∧ ∀ i, k4 ≤ i → gR σ (v 6) i = none
theorem x_takes_img {F : Nat → Prop} {σ : St} {η : Eta} {er ep sc : Nat} {v : Nat → Nat} {f : Nat → Int32} (hA : AOK η) (hS : StR F σ η.1 (w0 er ep) (gI σ 2 5) (gI σ 2 6) f) (hI : ImS σ η.1 sc v) (hnd : (l8 sc v).Nodup) (hb : ∀ c, c ∈ l8 sc v → 54 ≤ c ∧ c < η.2.1 ∧ c ≠ er ∧ c ≠ ep ∧ ¬ F c) (hF : ∀ c, F c → 54 ≤ c ∧ c < η.2.1) (her : er = 7 ∨ 54 ≤ er) (hep : ep = 9 ∨ 54 ≤ ep) (herl : er < η.2.1) (hepl : ep < η.2.1) :
    ∃ σ' η' e5 e6, fX1_takes_c2 sc σ η = some (σ', η') ∧ EX η η' ∧ AOK η' ∧ η'.2.1 ≤ η.2.1 + 4 ∧ η'.2.2 ≤ η.2.2 + 4000 ∧ StR F σ' η'.1 (v56 v e5 e6) (gI σ' sc 5) (gI σ' sc 6) f ∧ (∀ j, j < 5 → gR σ' sc j = some (v j)) ∧ η'.1 sc = xD1 ∧ (∀ a, a ≠ sc → (∀ i, i < 7 → a ≠ v i) → a < η.2.1 → agc σ σ' a) ∧ (e5 = v 5 ∨ (η.2.1 ≤ e5 ∧ e5 < η'.2.1)) ∧ (e6 = v 6 ∨ (η.2.1 ≤ e6 ∧ e6 < η'.2.1)) ∧ e5 ≠ e6 := by
  obtain ⟨q3, q4, hss, ⟨k3, L3, N3⟩, k4, L4, N4⟩ := hI
  obtain ⟨hsv, hvv⟩ := l8_iv hnd
  have hB : ∀ i, i < 7 → 54 ≤ v i ∧ v i < η.2.1 ∧ v i ≠ er ∧ v i ≠ ep ∧ ¬ F (v i) := fun i hi => hb _ (l8_in hi)
  have hsc := hb sc List.mem_cons_self
  have h54 := hA.2.2
  have nv : ∀ c, 54 ≤ c → c ≠ er → c ≠ ep → ∀ i, i < 7 → c ≠ w0 er ep i := fun c g1 g2 g3 i hi => by
    rcases (show i = 0 ∨ i = 1 ∨ i = 2 ∨ i = 3 ∨ i = 4 ∨ i = 5 ∨ i = 6 by omega) with rfl | rfl | rfl | rfl | rfl | rfl | rfl
    · show c ≠ 3; omega
    · show c ≠ 4; omega
    · show c ≠ 5; omega
    · show c ≠ 6; omega
    · show c ≠ 8; omega
    · exact g2
    · exact g3
  have hwl : ∀ i, i < 7 → w0 er ep i < η.2.1 := fun i hi => by
    rcases (show i = 0 ∨ i = 1 ∨ i = 2 ∨ i = 3 ∨ i = 4 ∨ i = 5 ∨ i = 6 by omega) with rfl | rfl | rfl | rfl | rfl | rfl | rfl
    · show 3 < η.2.1; omega
    · show 4 < η.2.1; omega
    · show 5 < η.2.1; omega
    · show 6 < η.2.1; omega
    · show 8 < η.2.1; omega
    · exact herl
    · exact hepl
  obtain ⟨ra, rb, σ1, σ2, η2, σ3, σ4, η4, e5, e6, t1, t2, t3', t4, t5, t6, t7, t8, t9, t10, t11, t12, t13, t14⟩ := takes_core (v := v) hA hS hss L3 N3 L4 N4 (fun i j' hi hj' => nv (v i) (hB i hi).1 (hB i hi).2.2.1 (hB i hi).2.2.2.1 j' hj') hvv (fun a ha i hi z => (hB i hi).2.2.2.2 (by rw [← z]; exact ha)) (fun a ha => (hF a ha).2) hwl (fun i hi => (hB i hi).2.1)
  obtain ⟨s1, s2, s3, s4⟩ := t12 sc hsv hsc.2.1
  have n2 : ∀ i, i < 7 → 2 ≠ v i := fun i hi => by have := (hB i hi).1; omega
  obtain ⟨-, -, -, m4⟩ := t12 2 n2 (by omega)
  have sh2 : η2.1 sc = xD1 := (t5.2.2.1 sc hsc.2.1).trans q3
  have sh4 : η4.1 sc = xD1 := (t6.2.2.1 sc (Nat.lt_of_lt_of_le hsc.2.1 t5.1)).trans sh2
  have hck : ∀ {β : Type} (x : Option β), ckC 0 0 5 5 5 x = x := fun x => ckC_t (by decide) (by decide) (by decide) (by decide) (by decide)
  have t1' : fJ2_clear (v 3) (pC (pC (pC σ 3 (v 0) (0 : Int32).toNatClampNeg (0 : Int32).toNatClampNeg (5 : Int32).toNatClampNeg) 4 (v 1) (0 : Int32).toNatClampNeg (0 : Int32).toNatClampNeg (5 : Int32).toNatClampNeg) 5 (v 2) (0 : Int32).toNatClampNeg (0 : Int32).toNatClampNeg (5 : Int32).toNatClampNeg) η = some (σ1, η) := t1
  have t2' : fJ2_addAll (v 3) 6 σ1 η = some (ra, σ2, η2) := t2
  have t4' : fJ2_addAll (v 4) 8 σ3 η2 = some (rb, σ4, η4) := t4
  have hl3 : ∀ i, i < 7 → η2.1 (v i) = η.1 (v i) := fun i hi => t5.2.2.1 _ (hB i hi).2.1
  have htk : fX1_takes_c2 sc σ η = some (pI (pI σ4 sc 5 (gI σ 2 5)) sc 6 (gI σ 2 6), η4) := by
    unfold fX1_takes_c2 fX1_takes_c2_0 fX1_takes_c2_49 fX1_takes_c2_60 fX1_takes_c2_68 fX1_takes_c2_79
    rw [hA.x, ckS_t q3, q4 0 (by omega), ckN_s, ckI_t hss.1, hck, letB_t, ckS_t q3, gR_pC, q4 1 (by omega), ckN_s, ckI_t hss.2.1, hck, letB_t, ckS_t q3, gR_pC, gR_pC, q4 2 (by omega), ckN_s, ckI_t hss.2.2, hck, letB_t, ckS_t q3, gR_pC, gR_pC, gR_pC, q4 3 (by omega), ckN_s, ckS_t L3.1, t1', bn2_s, hA.x, ckS_t q3, s1.2.2, q4 3 (by omega), ckN_s, ckS_t L3.1, t2', bn3_s, t7.x, ckS_t sh2, s2.2.2, q4 4 (by omega), ckN_s, ckS_t ((hl3 4 (by omega)).trans L4.1), t3', bn2_s, t7.x, ckS_t sh2, s3.2.2, q4 4 (by omega), ckN_s, ckS_t ((hl3 4 (by omega)).trans L4.1), t4', bn3_s, t8.x, ckS_t sh4, letB_t, ckS_t sh4, letB_t, gI_pI, if_neg (by omega), m4.1, m4.1]
  have ag4 : ∀ a, a ≠ sc → agc σ4 (pI (pI σ4 sc 5 (gI σ 2 5)) sc 6 (gI σ 2 6)) a := fun a ha => (agc.pI ha).tr (agc.pI ha)
  have hx5 := t5.1
  have hx6 := t6.1
  refine ⟨_, η4, e5, e6, htk, t5.tr t6, t8, t9, t10, ?_, fun j hj => (s4.2.2 j).trans (q4 j hj), sh4, fun a a1 a2 a3 => (t12 a a2 a3).2.2.2.tr (ag4 a a1), ?_, ?_, ?_⟩
  · have e1 : gI (pI (pI σ4 sc 5 (gI σ 2 5)) sc 6 (gI σ 2 6)) sc 5 = gI σ 2 5 := by rw [gI_pI, if_neg (by omega), gI_pI, if_pos ⟨rfl, rfl⟩]
    have e2 : gI (pI (pI σ4 sc 5 (gI σ 2 5)) sc 6 (gI σ 2 6)) sc 6 = gI σ 2 6 := by rw [gI_pI, if_pos ⟨rfl, rfl⟩]
    rw [e1, e2]
    refine t11.fr (fun _ h => h) (fun c hc => ag4 c (fun z => hsc.2.2.2.2 (by rw [← z]; exact hc))) (fun _ _ => rfl) (fun i hi => ⟨ag4 _ ?_, rfl⟩) (fun _ _ => rfl)
    unfold v56
    by_cases w5 : i = 5
    · rw [if_pos w5]
      rcases t13 with z | z
      · rw [z]; exact Ne.symm (hsv 5 (by omega))
      · omega
    · rw [if_neg w5]
      by_cases w6 : i = 6
      · rw [if_pos w6]
        rcases t14 with z | z
        · rw [z]; exact Ne.symm (hsv 6 (by omega))
        · omega
      · rw [if_neg w6]
        exact Ne.symm (hsv i hi)
  · rcases t13 with z | z
    · exact Or.inl z
    · exact Or.inr ⟨z.1, by omega⟩
  · rcases t14 with z | z
    · exact Or.inl z
    · exact Or.inr ⟨by omega, z.2⟩
  · rcases t13 with a | a
    · rcases t14 with b | b
      · rw [a, b]; exact hvv 5 6 (by omega) (by omega) (by omega)
      · have := (hB 5 (by omega)).2.1; omega
    · rcases t14 with b | b
      · have := (hB 6 (by omega)).2.1; omega
      · omega
