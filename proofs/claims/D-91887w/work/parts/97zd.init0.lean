/-! the plain law: the invariant at the start -/
set_option maxRecDepth 100000
theorem st_0 {f : Nat → Int32} (h : ∀ r, f r = 0) : stampOK 0 f 0 := ⟨by decide, by decide, fun r _ => by rw [h r]; decide⟩
theorem PI_init : PI 0 sM eta1 (shS 54 sM) := by
  have hL : ∀ l e, eta1.1 l = xD24 → gR sM l 1 = some e → (∃ len, eta1.1 e = (2, 3, len, []) ∧ 0 ≤ len ∧ len ≤ 1000 ∧ 1 ≤ len) → gI sM l 2 = 0 → LstC sM eta1.1 l e 0 := fun l e h1 h2 h3 h4 => ⟨h1, h2, h3, h4, by omega⟩
  refine ⟨⟨XOK_eta1, eta1_wf⟩, by decide +kernel, by decide +kernel, ⟨by decide +kernel, 0, by omega, by decide +kernel, fun i hi => absurd hi (by omega)⟩, by decide +kernel, ?_, Or.inl ⟨by decide +kernel, by decide +kernel⟩, ?_, ?_⟩
  · refine ⟨fun _ => False, 7, 9, [], [], ⟨⟨by decide +kernel, by decide +kernel, by decide +kernel, by decide +kernel, by decide +kernel⟩, ⟨by decide +kernel, by decide +kernel, by decide +kernel, by decide +kernel, by decide +kernel, by decide +kernel, by decide +kernel, by decide +kernel, by decide +kernel⟩, ⟨rfl, rfl, rfl⟩, ⟨0, by omega, by decide +kernel, ?_, fun i hi => absurd hi (by omega), fun i _ => rfl⟩, 0, by omega, by decide +kernel, ?_, fun i hi => absurd hi (by omega), fun i _ => rfl⟩, Or.inl ⟨by decide +kernel, by decide +kernel, rfl⟩, Or.inl ⟨by decide +kernel, by decide +kernel, rfl⟩, by decide, fun c h => h.elim, fun c hc => absurd hc (by simp), Or.inl rfl, Or.inl rfl, by decide, by decide⟩
    · exact hL 6 7 rfl (by decide +kernel) ⟨_, rfl, by decide, by decide, by decide⟩ (by decide +kernel)
    · exact hL 8 9 rfl (by decide +kernel) ⟨_, rfl, by decide, by decide, by decide⟩ (by decide +kernel)
  · have e1 : gI sM 24 13 = 0 := by decide +kernel
    have e2 : gI sM 35 13 = 0 := by decide +kernel
    have e3 : gI sM 0 7 = 0 := by decide +kernel
    have e4 : gI sM 24 14 = -1 := by decide +kernel
    have e5 : gI sM 0 14 = -1 := by decide +kernel
    unfold PlX
    rw [e1, e2, e3, e4, e5]
    refine ⟨st_0 (fun r => rfl), st_0 (fun r => rfl), ⟨0, by omega, rfl, ⟨by decide, by decide⟩, by decide, by decide⟩, fun q => absurd q (by decide), fun q => absurd q (by decide)⟩
  · have e1 : gI (shS 54 sM) 0 56 = 0 := by decide +kernel
    have e2 : gI (shS 54 sM) 0 60 = -2 := by decide +kernel
    have e3 : gI (shS 54 sM) 0 59 = -1 := by decide +kernel
    unfold PlM
    rw [e1, e2, e3]
    refine ⟨st_0 (fun r => rfl), Or.inl rfl, by decide, by decide, fun h v q => ?_⟩
    rw [(by decide : (-1 : Int32).toInt = -1)] at q
    omega
