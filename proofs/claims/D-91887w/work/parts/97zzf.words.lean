/-! the plain law: the recipe's signs, x's words -/
set_option maxRecDepth 100000
def sL (i : Nat) : Nat := sLen.getD i 0
/-- the i-th word stands from fr to to -/
def isS (T : Nat → Int32) (i fr to : Nat) : Bool := decide (to = fr + sL i) && (List.range (sL i)).all (fun k => decide (T (fr + k) = sCh i (I k)))
theorem isS_t {T : Nat → Int32} {i fr to : Nat} : isS T i fr to = true ↔ to = fr + sL i ∧ ∀ k, k < sL i → T (fr + k) = sCh i (I k) := by
  unfold isS
  rw [Bool.and_eq_true, List.all_eq_true, decide_eq_true_iff]
  exact and_congr Iff.rfl ⟨fun h k hk => of_decide_eq_true (h k (List.mem_range.mpr hk)), fun h k hk => decide_eq_true (h k (List.mem_range.mp hk))⟩
noncomputable def gIsB (i a0 : Nat) (a2 : Int32) (σ : St) (η : Eta) : Option (((St × Eta) ⊕ (St × Eta)) ⊕ (Int32 × St × Eta)) := ckX η (if (Int32.ofNat (sLen.getD i 0) >>> ((0 : Int32) &&& 31)) ≤ a2 then some (.inl (.inr (σ, η))) else ckS (η.1 a0) xD7 (ckN (gR σ a0 0) (fun v3 => ckS (η.1 a0) xD7 (ckI 1 (η.1 v3) (fun n_5 => ckB ((gI σ a0 3) + a2) n_5 (ckB a2 (sLen.getD i 0) (ckP (a2 < Int32.ofNat (sLen.getD i 0)) (if (gA (σ) v3 ((gI σ a0 3) + a2).toNatClampNeg) = (sCh i a2) then letB (a2 + 1) (fun x10 => some (.inr (x10, σ, η))) else some (.inl (.inl (σ, η)))))))))))
noncomputable def gIsX (ex : (St × Eta) ⊕ (St × Eta)) : Option (Int32 × St × Eta) := match ex with
  | (.inl (σ', η')) => some (0, σ', η')
  | (.inr (σ', η')) => some (1, σ', η')
noncomputable def gIs (i a0 : Nat) (σ : St) (η : Eta) : Option (Int32 × St × Eta) := ckX η (ckS (η.1 a0) xD7 (ckS (η.1 a0) xD7 (if ((gI σ a0 4) - (gI σ a0 3)) = (Int32.ofNat (sLen.getD i 0) >>> ((0 : Int32) &&& 31)) then bn1 (iter (fun v : Int32 × St × Eta => gIsB i a0 v.1 v.2.1 v.2.2) FU (0, σ, η)) (fun ex => gIsX ex) else some (0, σ, η))))
theorem sL_sh : ∀ i, i < 27 → (Int32.ofNat (sLen.getD i 0) >>> ((0 : Int32) &&& 31)) = I (sL i) ∧ sL i ≤ 8 ∧ 1 ≤ sL i := by decide
section XW
variable {T : Nat → Int32} {n : Nat} {σ : St} {η : Eta} {a : Nat}
theorem x_gIs (h : RdX T n σ η a) {fr to : Nat} (hft : fr ≤ to) (htn : to ≤ n) (h3 : gI σ a 3 = I fr) (h4 : gI σ a 4 = I to) {i : Nat} (hi : i < 27) : gIs i a σ η = some (if isS T i fr to = true then 1 else 0, σ, η) := by
  obtain ⟨h0, g1, g2, g3, g4, g5, g6⟩ := h
  obtain ⟨e1, e2, e0⟩ := sL_sh i hi
  unfold gIs
  rw [ckX_t g1, ckS_t g2, ckS_t g2, h3, h4, I_sub hft (by omega), e1]
  by_cases z : to = fr + sL i
  · rw [if_pos (show I (to - fr) = I (sL i) by rw [z, Nat.add_sub_cancel_left])]
    have hstep : ∀ k, k < sL i → gIsB i a (I k) σ η = if T (fr + k) = sCh i (I k) then some (.inr (I (k + 1), σ, η)) else some (.inl (.inl (σ, η))) := by
      intro k hk
      unfold gIsB
      rw [ckX_t g1, e1, if_neg (fun q => by rw [I_le (by omega) (by omega)] at q; omega), ckS_t g2, g4, ckN_s, ckS_t g2, ckI_t g3, h3, I_add, ckB_t (I_in (by omega) (by decide)), ckB_t (I_in (show k < sLen.getD i 0 from hk) (by show sL i < _; omega)), ckP_t (show I k < Int32.ofNat (sLen.getD i 0) from (I_lt (by omega) (show sL i < _ by omega)).mpr hk), I_cl (by omega), g6 _ (by omega), letB_t, show I k + 1 = I (k + 1) from I_add k 1]
    by_cases z2 : ∀ k, k < sL i → T (fr + k) = sCh i (I k)
    · rw [if_pos (isS_t.mpr ⟨z, z2⟩)]
      have := Rn.seq (f := fun v : Int32 × St × Eta => gIsB i a v.1 v.2.1 v.2.2) (fun k => (I k, σ, η)) (sL i) (b := .inr (σ, η)) (fun k hk => by
        show gIsB i a (I k) σ η = _
        rw [hstep k hk, if_pos (z2 k hk)]) (by
        show gIsB i a (I (sL i)) σ η = _
        unfold gIsB
        rw [ckX_t g1, e1, if_pos ((I_le (by omega) (by omega)).mpr (Nat.le_refl _))]) (by rw [FU_v]; omega)
      rw [show ((0 : Int32), σ, η) = (I 0, σ, η) from rfl, this]
      rfl
    · rw [if_neg (fun q => z2 (isS_t.mp q).2)]
      have key : ∀ m k, k + m = sL i → (∀ j, j < k → T (fr + j) = sCh i (I j)) → ∃ K, Rn (fun v : Int32 × St × Eta => gIsB i a v.1 v.2.1 v.2.2) K (I k, σ, η) (.inl (σ, η)) ∧ K ≤ m + 1 := by
        intro m
        induction m with
        | zero => intro k hk hj; exact absurd (fun j q => hj j (by omega)) z2
        | succ m ih =>
          intro k hk hj
          by_cases y : T (fr + k) = sCh i (I k)
          · obtain ⟨K, r1, r2⟩ := ih (k + 1) (by omega) (fun j q => by
              by_cases e : j = k
              · rw [e]; exact y
              · exact hj j (by omega))
            exact ⟨K + 1, Rn.step (by show gIsB i a (I k) σ η = _; rw [hstep k (by omega), if_pos y]) r1, by omega⟩
          · exact ⟨1, Rn.stop (by show gIsB i a (I k) σ η = _; rw [hstep k (by omega), if_neg y]), by omega⟩
      obtain ⟨K, r1, r2⟩ := key (sL i) 0 (by omega) (fun j q => absurd q (Nat.not_lt_zero j))
      rw [show ((0 : Int32), σ, η) = (I 0, σ, η) from rfl, r1.fu (by rw [FU_v]; omega)]
      rfl
  · rw [if_neg (fun q => by rw [I_eq (by omega) (by omega)] at q; omega), if_neg (fun q => z (isS_t.mp q).1)]
noncomputable def gTk (i a0 : Nat) (σ : St) (η : Eta) : Option (Int32 × St × Eta) := ckX η (ckS (η.1 a0) xD7 (bn3 (gIs i a0 σ η) (fun r1 σ2 η3 => ckX η3 (if r1 = 0 then ckX η3 (ckZ r1 (some (r1, σ2, η3))) else ckS (η3.1 a0) xD7 (bn2 (fX7_next a0 σ2 η3) (fun σ3 η4 => ckX η4 (ckZ r1 (some (r1, σ3, η4)))))))))
theorem x_gTk (h : RdX T n σ η a) {fr to : Nat} (hft : fr ≤ to) (htn : to ≤ n) (h3 : gI σ a 3 = I fr) (h4 : gI σ a 4 = I to) {i : Nat} (hi : i < 27) : gTk i a σ η = if isS T i fr to = true then some (1, rS σ a (nxF T n to) (nxT T n to), η) else some (0, σ, η) := by
  unfold gTk
  rw [ckX_t h.2.1, ckS_t h.2.2.1, x_gIs h hft htn h3 h4 hi]
  by_cases z : isS T i fr to = true
  · rw [if_pos z, if_pos z, bn3_s, ckX_t h.2.1, if_neg (by decide), ckS_t h.2.2.1, x_next h htn h4, bn2_s, ckX_t h.2.1]
    rfl
  · rw [if_neg z, if_neg z, bn3_s, ckX_t h.2.1, if_pos rfl, ckX_t h.2.1]
    rfl
end XW
theorem is_g0 : fX7_is_cS0 = gIs 0 := rfl
theorem tk_g0 : fX7_takes_cS0 = gTk 0 := rfl
theorem is_g1 : fX7_is_cS1 = gIs 1 := rfl
theorem tk_g1 : fX7_takes_cS1 = gTk 1 := rfl
theorem is_g2 : fX7_is_cS2 = gIs 2 := rfl
theorem tk_g2 : fX7_takes_cS2 = gTk 2 := rfl
theorem is_g3 : fX7_is_cS3 = gIs 3 := rfl
theorem tk_g3 : fX7_takes_cS3 = gTk 3 := rfl
theorem is_g4 : fX7_is_cS4 = gIs 4 := rfl
theorem tk_g4 : fX7_takes_cS4 = gTk 4 := rfl
theorem is_g5 : fX7_is_cS5 = gIs 5 := rfl
theorem tk_g5 : fX7_takes_cS5 = gTk 5 := rfl
theorem is_g6 : fX7_is_cS6 = gIs 6 := rfl
theorem tk_g6 : fX7_takes_cS6 = gTk 6 := rfl
theorem is_g7 : fX7_is_cS7 = gIs 7 := rfl
theorem tk_g7 : fX7_takes_cS7 = gTk 7 := rfl
theorem is_g8 : fX7_is_cS8 = gIs 8 := rfl
theorem tk_g8 : fX7_takes_cS8 = gTk 8 := rfl
theorem is_g9 : fX7_is_cS9 = gIs 9 := rfl
theorem tk_g9 : fX7_takes_cS9 = gTk 9 := rfl
theorem is_g10 : fX7_is_cS10 = gIs 10 := rfl
theorem tk_g10 : fX7_takes_cS10 = gTk 10 := rfl
theorem is_g11 : fX7_is_cS11 = gIs 11 := rfl
theorem tk_g11 : fX7_takes_cS11 = gTk 11 := rfl
theorem is_g12 : fX7_is_cS12 = gIs 12 := rfl
theorem tk_g12 : fX7_takes_cS12 = gTk 12 := rfl
theorem is_g13 : fX7_is_cS13 = gIs 13 := rfl
theorem tk_g13 : fX7_takes_cS13 = gTk 13 := rfl
theorem is_g14 : fX7_is_cS14 = gIs 14 := rfl
theorem tk_g14 : fX7_takes_cS14 = gTk 14 := rfl
theorem is_g15 : fX7_is_cS15 = gIs 15 := rfl
theorem tk_g15 : fX7_takes_cS15 = gTk 15 := rfl
theorem is_g16 : fX7_is_cS16 = gIs 16 := rfl
theorem tk_g16 : fX7_takes_cS16 = gTk 16 := rfl
theorem is_g17 : fX7_is_cS17 = gIs 17 := rfl
theorem tk_g17 : fX7_takes_cS17 = gTk 17 := rfl
theorem is_g18 : fX7_is_cS18 = gIs 18 := rfl
theorem tk_g18 : fX7_takes_cS18 = gTk 18 := rfl
theorem is_g19 : fX7_is_cS19 = gIs 19 := rfl
theorem tk_g19 : fX7_takes_cS19 = gTk 19 := rfl
theorem is_g20 : fX7_is_cS20 = gIs 20 := rfl
theorem tk_g20 : fX7_takes_cS20 = gTk 20 := rfl
theorem is_g21 : fX7_is_cS21 = gIs 21 := rfl
theorem tk_g21 : fX7_takes_cS21 = gTk 21 := rfl
theorem is_g22 : fX7_is_cS22 = gIs 22 := rfl
theorem tk_g22 : fX7_takes_cS22 = gTk 22 := rfl
theorem is_g23 : fX7_is_cS23 = gIs 23 := rfl
theorem tk_g23 : fX7_takes_cS23 = gTk 23 := rfl
theorem is_g24 : fX7_is_cS24 = gIs 24 := rfl
theorem tk_g24 : fX7_takes_cS24 = gTk 24 := rfl
theorem is_g25 : fX7_is_cS25 = gIs 25 := rfl
theorem tk_g25 : fX7_takes_cS25 = gTk 25 := rfl
theorem is_g26 : fX7_is_cS26 = gIs 26 := rfl
theorem tk_g26 : fX7_takes_cS26 = gTk 26 := rfl
