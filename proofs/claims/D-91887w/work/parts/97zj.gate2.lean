/-! the plain law: the gate's search is a fold over all rows -/
set_option maxRecDepth 100000
section GK
variable {mi nd : Nat → Nat} {f : Nat} {sh : Nat → Sh} {n : Nat}
def blk (mi nd : Nat → Nat) (n m t k : Nat) : List (List Nat) := if t.testBit k = true then [] else (pl m (avail n (t ||| 2 ^ k))).map (fun L => k :: L)
theorem pl_blk {m t : Nat} (hn : n ≤ 8) (ht : t < 256) : pl (m + 1) (avail n t) = (List.range n).flatMap (blk mi nd n m t) := by
  show (avail n t).flatMap _ = _
  unfold avail
  rw [flat_filter]
  have : ∀ (l : List Nat), (∀ k, k ∈ l → k < n) → l.flatMap (fun k => if (!t.testBit k) = true then (pl m (er k ((List.range n).filter (fun k => !t.testBit k)))).map (fun t => k :: t) else []) = l.flatMap (blk mi nd n m t) := by
    intro l
    induction l with
    | nil => intro _; rfl
    | cons a l ih =>
      intro h
      rw [List.flatMap_cons, List.flatMap_cons, ih (fun k hk => h k (List.mem_cons_of_mem _ hk))]
      congr 1
      unfold blk
      by_cases q : t.testBit a = true
      · rw [if_pos q, if_neg (by rw [q]; decide)]
      · have q' : t.testBit a = false := by simpa using q
        rw [if_neg q, if_pos (by rw [q']; rfl)]
        have := av_er n hn t ht a (h a List.mem_cons_self) q'
        unfold avail at this
        rw [this]
        rfl
  exact this _ (fun k hk => List.mem_range.mp hk)
theorem rx_bits {S : GS} {acc : Nat × (Nat → Nat)} {σ : St} {T : Nat} (hR : RX n mi f S acc σ) (h1 : 1 ≤ f) (h3 : f ≤ 3) : (I f).toInt = f := I_toInt (by omega)
theorem x_gate (hn : n ≤ 8) (h1 : 1 ≤ f) (h3 : f ≤ 3) {σ0 : St} (hPX : ∀ σ, fr5 σ0 σ → PX sh n mi nd σ) : ∀ (m N : Nat) (S : GS) (acc : Nat × (Nat → Nat)) (σ : St) (T : Nat), m < N → (avail n S.2.2.2).length = m → S.2.2.2 < 256 → S.2.2.2 < 2 ^ n → fr5 σ0 σ → RX n mi f S acc σ → gBd mi S T → T + 200 * m ≤ 1600 → ∃ σ', fGate sh N (I S.2.2.2) (I S.2.2.1) σ = some σ' ∧ fr5 σ0 σ' ∧ RX n mi f S (gfold mi nd f S acc (pl m (avail n S.2.2.2))) σ' := by
  intro m
  induction m with
  | zero =>
    intro N S acc σ T hN hm ht ht2 hf hR hB hT
    obtain ⟨N, rfl⟩ := Nat.exists_eq_succ_of_ne_zero (show N ≠ 0 by omega)
    obtain ⟨ep, hL, hp⟩ := hPX σ hf
    obtain ⟨R1, R2, R3, R4, R5, R6⟩ := hR
    have hfull : S.2.2.2 = 2 ^ n - 1 := (av_full n hn _ ht ht2).mp hm
    have hlast := hB.2.1
    show ∃ σ', fX5_goes sh (fGate sh N) (I S.2.2.2) (I S.2.2.1) σ = some σ' ∧ _
    have hfold : gfold mi nd f S acc (pl 0 (avail n S.2.2.2)) = if S.2.2.1 < acc.1 then (S.2.2.1, S.1) else acc := rfl
    rw [hfold]
    unfold fX5_goes
    rw [hL.size, bn1_s, av_most n hn, if_pos (by rw [hfull]), R4]
    by_cases q : S.2.2.1 < acc.1
    · rw [if_pos ((I_lt (by omega) (by omega)).mpr q), if_pos q, letB_t, ckC_t (by decide) (by decide) (by decide) (by decide) (by decide), letB_t]
      refine ⟨_, rfl, fun c hc => ?_, fun p hp hb => ?_, fun i hi => ?_, ?_, ?_, ?_, fun _ p hp => ?_⟩
      · refine ((hf c hc).tr (agc.pI (by omega))).tr ⟨fun _ => rfl, fun k => ?_, fun _ => rfl⟩
        rw [gA_pC, if_neg (by omega)]
      · rw [gA_pC, if_neg (by omega), gA_pC, if_neg (by omega)]
        exact R1 p hp hb
      · rw [gA_pC, if_neg (by omega)]
        exact R2 i hi
      · show gI (pI σ 49 4 (I S.2.2.1)) 49 5 = _
        rw [gI_pI, if_neg (by omega)]
        exact R3
      · show gI (pI σ 49 4 (I S.2.2.1)) 49 4 = _
        rw [gI_pI, if_pos ⟨rfl, rfl⟩]
      · show S.2.2.1 ≤ 1000000
        omega
      · rw [gA_pC, if_pos rfl, show (0 : Int32).toNatClampNeg = 0 from rfl, show (8 : Int32).toNatClampNeg = 8 from rfl, pk_cpy_in (by omega) (by omega), show 0 + (p - 0) = p by omega]
        exact (R1 p hp (by rw [hfull]; exact bit_all n hn p hp)).1
    · rw [if_neg (fun y => q ((I_lt (by omega) (by omega)).mp y)), if_neg q]
      exact ⟨σ, rfl, hf, R1, R2, R3, R4, R5, R6⟩
  | succ m ih =>
    intro N S acc σ T hN hm ht ht2 hf hR hB hT
    obtain ⟨N, rfl⟩ := Nat.exists_eq_succ_of_ne_zero (show N ≠ 0 by omega)
    have hnf : ¬ S.2.2.2 = 2 ^ n - 1 := fun y => by
      have := (av_full n hn _ ht ht2).mpr y
      omega
    have hlast := hB.2.1
    show ∃ σ', fX5_goes sh (fGate sh N) (I S.2.2.2) (I S.2.2.1) σ = some σ' ∧ _
    rw [pl_blk (mi := mi) (nd := nd) hn ht]
    -- one turn
    have turn : ∀ (k : Nat) (a : Nat × (Nat → Nat)) (s : St), k < n → fr5 σ0 s → RX n mi f S a s → ∃ s', bX5_goes_53 sh (fGate sh N) (I S.2.2.2) (I S.2.2.1) (I k) s = some (.inr (I (k + 1), s')) ∧ fr5 σ0 s' ∧ RX n mi f S (gfold mi nd f S a (blk mi nd n m S.2.2.2 k)) s' := by
      intro k a s hk hfs hRs
      obtain ⟨ep, hL, hp⟩ := hPX s hfs
      obtain ⟨q, q1, q0, q2, q3, q4, q5⟩ := hp k hk
      obtain ⟨R1, R2, R3, R4, R5, R6⟩ := hRs
      have ek : I k + 1 = I (k + 1) := I_add k 1
      unfold bX5_goes_53
      rw [hL.size, bn1_s, if_neg (fun y => absurd ((I_le (by omega) (by omega)).mp y) (by omega)), hL.get hk q1, bn1_s, ckS_t q2, bit_t _ ht k (by omega), ckS_t q2, ckS_t q2, ek]
      unfold blk
      by_cases hb : S.2.2.2.testBit k = true
      · rw [if_pos hb, if_pos hb, if_pos rfl, letB_t]
        exact ⟨s, rfl, hfs, R1, R2, R3, R4, R5, R6⟩
      · rw [if_neg hb, if_neg hb, if_neg (by decide), gfold_cons]
        have hb' : S.2.2.2.testBit k = false := by simpa using hb
        -- the piece is laid in
        have go : gok nd S k → ∃ s', fX5_goes_128 sh (fGate sh N) (I S.2.2.2) (I S.2.2.1) (I k) q 0 1 s = some (.inr (I (k + 1), s')) ∧ fr5 σ0 s' ∧ RX n mi f S (gfold mi nd f (gstep mi nd f S k) a (pl m (avail n (S.2.2.2 ||| 2 ^ k)))) s' := by
          intro ho
          have hbl := gbeg_le (f := f) hB ho
          have gi := gf_le S.2.1 (f - 1)
          have hBs : ∀ i, S.2.1 i ≤ 100000 := fun i => by have := hB.1 i; omega
          have hfree := R2 (gf S.2.1 (f - 1)) (by omega)
          have hb1 := hBs (gf S.2.1 (f - 1))
          unfold fX5_goes_128
          rw [x_fire h1 h3 R2 hBs R3, bn1_s]
          unfold xX5_goes_128 fX5_goes_164
          rw [ckB_t (I_in (by omega) (by omega)), I_cl (by omega), hfree, letB_t, ckS_t q2, ckS_t q2]
          generalize hg : gf S.2.1 (f - 1) = g at gi hfree hb1
          generalize hw : S.2.1 g = w at hfree hb1
          have h207 : ∃ s', fX5_goes_207 sh (fGate sh N) (I S.2.2.2) (I S.2.2.1) (I k) q (I g) (I w) (I k) (I (gbeg mi nd f S k)) s = some (.inr (I (k + 1), s')) ∧ fr5 σ0 s' ∧ RX n mi f S (gfold mi nd f (gstep mi nd f S k) a (pl m (avail n (S.2.2.2 ||| 2 ^ k)))) s' := by
            generalize hs3 : pA (pA (pA s 50 k (I (gbeg mi nd f S k))) 51 k (I (gbeg mi nd f S k + mi k))) 53 g (I (gbeg mi nd f S k + mi k)) = s3
            have fr3 : fr5 s s3 := by
              rw [← hs3]
              exact ((fr5.pA (by omega)).tr (fr5.pA (by omega))).tr (fr5.pA (by omega))
            have e49 : ∀ z, gI s3 49 z = gI s 49 z := fun z => by rw [← hs3]; rfl
            have a50 : ∀ p, gA s3 50 p = upf (gA s 50) k (I (gbeg mi nd f S k)) p := fun p => by rw [← hs3, gA_pA_n (by omega), gA_pA_n (by omega), gA_upf]
            have a51 : ∀ p, gA s3 51 p = upf (gA s 51) k (I (gbeg mi nd f S k + mi k)) p := fun p => by rw [← hs3, gA_pA_n (by omega), gA_upf, gA_pA_n (by omega)]
            have a52 : gA s3 52 = gA s 52 := by rw [← hs3, gA_pA_n (by omega), gA_pA_n (by omega), gA_pA_n (by omega)]
            have a53 : ∀ p, gA s3 53 p = upf (gA s 53) g (I (gbeg mi nd f S k + mi k)) p := fun p => by rw [← hs3, gA_upf, gA_pA_n (by omega), gA_pA_n (by omega)]
            have hRX3 : RX n mi f (gstep mi nd f S k) a s3 := by
              refine ⟨fun p hp hbp => ?_, fun i hi => ?_, by rw [e49]; exact R3, by rw [e49]; exact R4, R5, fun h p hp => by rw [a52]; exact R6 h p hp⟩
              · have hbp : (S.2.2.2 ||| 2 ^ k).testBit p = true := hbp
                rw [bit_up, Bool.or_eq_true, decide_eq_true_eq] at hbp
                rw [a50, a51]
                show upf _ _ _ _ = I (nup S.1 k _ p) ∧ upf _ _ _ _ = I (nup S.1 k _ p + mi p)
                unfold upf nup
                by_cases z : p = k
                · rw [if_pos z, if_pos z, if_pos z, z]
                  exact ⟨rfl, rfl⟩
                · rw [if_neg z, if_neg z, if_neg z]
                  rcases hbp with hbp | hbp
                  · exact R1 p hp hbp
                  · exact absurd hbp.symm z
              · rw [a53]
                show upf _ _ _ _ = I (nup S.2.1 (gf S.2.1 (f - 1)) _ i)
                unfold upf nup
                rw [hg]
                by_cases z : i = g
                · rw [if_pos z, if_pos z]
                · rw [if_neg z, if_neg z]; exact R2 i hi
            -- back again
            have back : ∀ (a' : Nat × (Nat → Nat)) (s4 : St), fr5 σ0 s4 → RX n mi f (gstep mi nd f S k) a' s4 → ∃ s', fX5_goes_271 sh (fGate sh N) (I S.2.2.2) (I S.2.2.1) (I k) (I g) (I w) s4 = some (.inr (I (k + 1), s')) ∧ fr5 σ0 s' ∧ RX n mi f S a' s' := by
              intro a' s4 hf4 hR4
              obtain ⟨Z1, Z2, Z3, Z4, Z5, Z6⟩ := hR4
              unfold fX5_goes_271
              rw [ckB_t (I_in (by omega) (by omega)), I_cl (by omega), letB_t, letB_t, ek]
              refine ⟨_, rfl, hf4.tr (fr5.pA (by omega)), fun p hp hbp => ?_, fun i hi => ?_, Z3, Z4, Z5, fun h p hp => by rw [gA_pA_n (by omega)]; exact Z6 h p hp⟩
              · have zk : p ≠ k := fun z => hb (by rw [← z]; exact hbp)
                rw [gA_pA_n (by omega), gA_pA_n (by omega)]
                have := Z1 p hp (by show (S.2.2.2 ||| 2 ^ k).testBit p = true; rw [bit_up, hbp]; rfl)
                have e : (gstep mi nd f S k).1 p = S.1 p := if_neg zk
                rw [e] at this
                exact this
              · rw [gA_upf]
                unfold upf
                by_cases z : i = g
                · rw [if_pos z, z, hw]
                · rw [if_neg z]
                  have := Z2 i hi
                  have e : (gstep mi nd f S k).2.1 i = S.2.1 i := if_neg (by rw [hg]; exact z)
                  rw [e] at this
                  exact this
            unfold fX5_goes_207
            rw [ckB_t (I_in (by omega) (by omega)), letB_t, ckB_t (I_in (by omega) (by omega)), ckS_t q2, ckB_t (I_in (by omega) (by omega)), I_cl (show k < 2147483648 by omega), I_cl (show g < 2147483648 by omega), gA_upf s 50, upf_s, gI_pA, q3, I_add, letB_t, ckB_t (I_in (by omega) (by omega)), ckB_t (I_in (by omega) (by omega)), gA_upf (pA s 50 k (I (gbeg mi nd f S k))) 51, upf_s, letB_t, hs3, ckB_t (I_in (by omega) (by omega)), ckB_t (I_in (by omega) (by omega)), e49, R4, a51, upf_s]
            by_cases hpr : a.1 ≤ gbeg mi nd f S k + mi k
            · rw [if_pos ((I_le (by omega) (by omega)).mpr hpr)]
              have hsk : gfold mi nd f (gstep mi nd f S k) a (pl m (avail n (S.2.2.2 ||| 2 ^ k))) = a := gfold_skip (Nat.le_trans hpr (Nat.le_max_right _ _)) _
              rw [hsk]
              exact back a s3 (hfs.tr fr3) hRX3
            · rw [if_neg (fun y => hpr ((I_le (by omega) (by omega)).mp y)), bit_s _ ht k (by omega), (I_max (by omega) (by omega)).1]
              have hlen := av_len n hn _ ht k hk hb'
              obtain ⟨s4, i1, i2, i3⟩ := ih N (gstep mi nd f S k) a s3 (T + 200) (by omega) (by show (avail n (S.2.2.2 ||| 2 ^ k)).length = m; omega) (bit_l _ ht k (by omega)) (av_lt n hn _ ht ht2 k hk) (hfs.tr fr3) hRX3 (gstep_B hB ho q5.2) (by omega)
              rw [show fGate sh N (I (S.2.2.2 ||| 2 ^ k)) (I (Nat.max S.2.2.1 (gbeg mi nd f S k + mi k))) s3 = some s4 from i1, bn1_s]
              exact back _ s4 i2 i3
          rcases q4 with ⟨z1, z2⟩ | ⟨z1, z2, z3⟩
          · rw [z2, if_pos rfl]
            have : gbeg mi nd f S k = w := by unfold gbeg; rw [if_pos z1, hg, hw]
            rw [this] at h207
            exact h207
          · have zn : ¬ I (nd k - 1) = (-1 : Int32) := fun y => by
              have y2 := congrArg Int32.toInt y
              rw [I_toInt (by omega), (by decide : (-1 : Int32).toInt = -1)] at y2
              omega
            have zb : S.2.2.2.testBit (nd k - 1) = true := by
              rcases ho with ho | ho
              · omega
              · exact ho
            have zB := hB.2.2 _ zb
            rw [z3, if_neg zn, ckB_t (I_in (by omega) (by omega)), I_cl (by omega), (R1 (nd k - 1) (by omega) zb).2, (I_max (by omega) (by omega)).1]
            have : gbeg mi nd f S k = Nat.max w (S.1 (nd k - 1) + mi (nd k - 1)) := by unfold gbeg; rw [if_neg (by omega), hg, hw]
            rw [this] at h207
            exact h207
        rcases q4 with ⟨z1, z2⟩ | ⟨z1, z2, z3⟩
        · have ho : gok nd S k := Or.inl z1
          rw [z2, if_pos rfl, if_pos ho]
          exact go ho
        · have zn : ¬ I (nd k - 1) = (-1 : Int32) := fun y => by
            have y2 := congrArg Int32.toInt y
            rw [I_toInt (by omega), (by decide : (-1 : Int32).toInt = -1)] at y2
            omega
          rw [z3, if_neg zn, bit_t _ ht _ (by omega)]
          by_cases hnb : S.2.2.2.testBit (nd k - 1) = true
          · have ho : gok nd S k := Or.inr hnb
            rw [if_pos hnb, if_neg (by decide), if_pos ho]
            exact go ho
          · have ho : ¬ gok nd S k := fun y => y.elim (fun y => by omega) hnb
            rw [if_neg hnb, if_pos rfl, if_neg ho, letB_t]
            exact ⟨s, rfl, hfs, R1, R2, R3, R4, R5, R6⟩
    obtain ⟨ep, hL, hp⟩ := hPX σ hf
    unfold fX5_goes
    rw [hL.size, bn1_s, av_most n hn, if_neg (fun y => hnf ((I_eq (by omega) (by have := Nat.pow_le_pow_right (n := 2) (by omega) hn; omega)).mp y))]
    unfold fX5_goes_53
    have key := Rn.up (f := fun v : Int32 × St => bX5_goes_53 sh (fGate sh N) (I S.2.2.2) (I S.2.2.1) v.1 v.2) (I := fun k v => v.1 = I k ∧ fr5 σ0 v.2 ∧ RX n mi f S (gfold mi nd f S acc ((List.range k).flatMap (blk mi nd n m S.2.2.2))) v.2) (P := fun σ' => fr5 σ0 σ' ∧ RX n mi f S (gfold mi nd f S acc ((List.range n).flatMap (blk mi nd n m S.2.2.2))) σ') n (fun k v hk hI => ?_) (fun v hI => ?_) (0, σ) ⟨rfl, hf, hR⟩ (by rw [FU_v]; omega)
    · obtain ⟨σ', k1, k2⟩ := key
      refine ⟨σ', ?_, k2⟩
      rw [k1, bn1_s]
      rfl
    · obtain ⟨i, s⟩ := v
      obtain ⟨e1, e2, e3⟩ := hI
      have e1 : i = I k := e1
      subst e1
      obtain ⟨s', t1, t2, t3⟩ := turn k _ s hk e2 e3
      refine ⟨(I (k + 1), s'), t1, rfl, t2, ?_⟩
      rw [List.range_succ, List.flatMap_append, gfold_app, List.flatMap_cons, List.flatMap_nil, List.append_nil]
      exact t3
    · obtain ⟨i, s⟩ := v
      obtain ⟨e1, e2, e3⟩ := hI
      have e1 : i = I n := e1
      subst e1
      refine ⟨s, ?_, e2, e3⟩
      obtain ⟨ep, hL, hp⟩ := hPX s e2
      show bX5_goes_53 sh (fGate sh N) (I S.2.2.2) (I S.2.2.1) (I n) s = _
      unfold bX5_goes_53
      rw [hL.size, bn1_s, if_pos ((I_le (by omega) (by omega)).mpr (Nat.le_refl n))]
end GK
