/-! the plain law: lists grow, are emptied, take over -/
set_option maxRecDepth 100000
theorem XOK.aE {η : Eta} {q : Sh} {z : Nat} (h : XOK (ksOf η) η.1) (h54 : 54 ≤ η.2.1) (hq : q.1 ≠ 9) : XOK (ksOf (aE η q z)) (aE η q z).1 := by
  obtain ⟨h1, h2, h3⟩ := h
  rw [ks_aE hq]
  refine ⟨fun k hk => List.mem_append_left _ (h1 k hk), fun k hk => ?_, fun k hk => ?_⟩
  · show (if k = η.2.1 then q else η.1 k) = _
    rw [if_neg (by omega)]
    exact h2 k hk
  · have hk : (if k = η.2.1 then q else η.1 k).1 ≠ 9 := hk
    by_cases e : k = η.2.1
    · rw [e]; exact List.mem_append_right _ List.mem_cons_self
    · rw [if_neg e] at hk
      exact List.mem_append_left _ (h3 k hk)
theorem agc.pCR {σ : St} {a b sp dp n c : Nat} (h : c ≠ b) : agc σ (pCR σ a b sp dp n) c := ⟨fun _ => rfl, fun _ => rfl, fun i => by rw [gR_pCR, if_neg h]⟩
theorem n29 {t n : Nat} {l : List (Nat × Nat)} : ((2, t, n, l) : Sh).1 ≠ 9 := by show (2 : Nat) ≠ 9; decide
theorem aE_n (η : Eta) (q : Sh) (z : Nat) : (aE η q z).1 η.2.1 = q := if_pos rfl
theorem aE_o {η : Eta} {q : Sh} {z k : Nat} (h : k ≠ η.2.1) : (aE η q z).1 k = η.1 k := if_neg h
/-- what stands before a list grows -/
def AOK (η : Eta) : Prop := XOK (ksOf η) η.1 ∧ wfE η ∧ 54 ≤ η.2.1
theorem AOK.aE {η : Eta} {q : Sh} {z : Nat} (h : AOK η) (hq : q.1 ≠ 9) : AOK (aE η q z) := ⟨h.1.aE h.2.2 hq, (EX.aE hq).2.2.2.2 h.2.1, by show 54 ≤ η.2.1 + 1; have := h.2.2; omega⟩
theorem AOK.x {η : Eta} (h : AOK η) {α : Type} {x : Option α} : ckX η x = x := ckX_t h.1
theorem AOK.ne {η : Eta} (h : AOK η) {k : Nat} (hk : (η.1 k).1 ≠ 9) : k ≠ η.2.1 := by
  intro e
  rw [e] at hk
  exact hk (h.2.1 _ (Nat.le_refl _))
theorem ckC_t {β : Type} {sp dp n : Int32} {n0 n1 : Nat} {x : Option β} (h1 : 0 ≤ sp.toInt) (h2 : 0 ≤ dp.toInt) (h3 : 0 ≤ n.toInt) (h4 : sp.toInt + n.toInt ≤ n0) (h5 : dp.toInt + n.toInt ≤ n1) : ckC sp dp n n0 n1 x = x := by
  refine if_pos ⟨?_, ?_, ?_, ?_, ?_⟩
  · rw [lt_ti, Int32.toInt_zero]; omega
  · rw [lt_ti, Int32.toInt_zero]; omega
  · rw [lt_ti, Int32.toInt_zero]; omega
  · rw [cl_of, cl_of]; omega
  · rw [cl_of, cl_of]; omega
theorem j_newLen {sh : Nat → Sh} {a b : Nat} (ha : a ≤ 1000) (h0 : 0 < a) (hb : b ≤ 1000) (hb0 : 0 < b) : ∃ c, fJ12_newLength sh (I a) (I b) (I a >>> (1 &&& 31)) = some (I c) ∧ a + b ≤ c ∧ c ≤ a + b + a / 2 ∧ (b ≤ a / 2 → c = a + a / 2) ∧ (a / 2 ≤ b → c = a + b) := by
  have e : I a >>> (1 &&& 31) = I (a / 2) := by
    have : ∀ a, a < 1001 → I a >>> (1 &&& 31) = I (a / 2) := by decide +kernel
    exact this a (by omega)
  have hd : a / 2 ≤ a := Nat.div_le_self _ _
  unfold fJ12_newLength
  rw [e, letB_t]
  have key : ∀ c, 0 < c → c ≤ 3000 → (if I a + (if I b < I (a / 2) then I (a / 2) else I b) ≤ 0 then bn1 (fJ12_hugeLength sh (I a) (I b)) (fun r3 => some r3) else if 2147483639 < I a + (if I b < I (a / 2) then I (a / 2) else I b) then bn1 (fJ12_hugeLength sh (I a) (I b)) (fun r5 => some r5) else some (I a + (if I b < I (a / 2) then I (a / 2) else I b))) = some (I a + (if I b < I (a / 2) then I (a / 2) else I b)) ∨ ¬ I a + (if I b < I (a / 2) then I (a / 2) else I b) = I c := by
    intro c h1 h2
    by_cases q : I a + (if I b < I (a / 2) then I (a / 2) else I b) = I c
    · left
      rw [q, if_neg (fun z => by rw [le_ti, I_toInt (by omega), Int32.toInt_zero] at z; omega), if_neg (fun z => by rw [lt_ti, I_toInt (by omega), (by decide : (2147483639 : Int32).toInt = 2147483639)] at z; omega)]
    · exact Or.inr q
  by_cases h : I b < I (a / 2)
  · have h' := (I_lt (by omega) (by omega)).mp h
    have e2 : I a + (if I b < I (a / 2) then I (a / 2) else I b) = I (a + a / 2) := by rw [if_pos h]; exact I_add _ _
    refine ⟨a + a / 2, ((key (a + a / 2) (by omega) (by omega)).resolve_right (fun z => z e2)).trans (by rw [e2]), by omega, by omega, fun _ => rfl, fun _ => by omega⟩
  · have h' : a / 2 ≤ b := by
      rcases Nat.lt_or_ge b (a / 2) with q | q
      · exact absurd ((I_lt (by omega) (by omega)).mpr q) h
      · exact q
    have e2 : I a + (if I b < I (a / 2) then I (a / 2) else I b) = I (a + b) := by rw [if_neg h]; exact I_add _ _
    refine ⟨a + b, ((key (a + b) (by omega) (by omega)).resolve_right (fun z => z e2)).trans (by rw [e2]), by omega, by omega, fun _ => by omega, fun _ => rfl⟩
/-- a copy of references, longer or shorter -/
theorem j_copyOf {σ : St} {η : Eta} (h : AOK η) {e len nl : Nat} (he : η.1 e = (2, 3, len, [])) (hl : len ≤ 1000) (hn : nl ≤ 3000) (hob : ∀ i, i < min nl len → ∀ y, gR σ e i = some y → obS (η.1 y)) : fJ14_copyOf e (I nl) σ η = some (η.2.1, pCR (aS σ η.2.1) e η.2.1 0 0 (min nl len), aE η (2, 3, nl, []) nl) := by
  have hne : e ≠ η.2.1 := h.ne (by rw [he]; exact n29)
  have hA : AOK (aE η (2, 3, nl, []) nl) := h.aE n29
  have e1 : (if I nl < I len then I nl else I len) = I (min nl len) := by
    by_cases q : nl < len
    · rw [if_pos ((I_lt (by omega) (by omega)).mpr q), Nat.min_eq_left (by omega)]
    · rw [if_neg (fun z => q ((I_lt (by omega) (by omega)).mp z)), Nat.min_eq_right (by omega)]
  have hm1 : min nl len ≤ nl := Nat.min_le_left _ _
  have hm2 : min nl len ≤ len := Nat.min_le_right _ _
  have hmi : (I (min nl len)).toInt = (min nl len : Nat) := I_toInt (by omega)
  have ez : (0 : Int32).toNatClampNeg = 0 := rfl
  have ezi : (0 : Int32).toInt = 0 := rfl
  have hE : obE (aE η (2, 3, nl, []) nl).1 (aS σ η.2.1) e 0 (min nl len) := fun i hi y hy => by
    have hy : gR (aS σ η.2.1) e (0 + i) = some y := hy
    rw [gR_aS, if_neg hne, Nat.zero_add] at hy
    have ho := hob i hi y hy
    rw [aE_o (h.ne (by rw [ho.1]; decide))]
    exact ho
  unfold fJ14_copyOf fJ14_copyOf_0 fJ14_copyOf_2_cM fJ14_copyOf_2_cM_0 fJ14_copyOf_2_cM_10 fJ14_copyOf_9
  rw [h.x, ckO_t he, h.x, ckW_t ⟨by rw [lt_ti, I_toInt (by omega), Int32.toInt_zero]; omega, by rw [I_cl (by omega)]; omega⟩, I_cl (by omega)]
  rw [hA.x, ckO_t (aE_o hne ▸ he), ckO_t (aE_o hne ▸ he), ckO_t (aE_n _ _ _), e1, ckC_t (by rw [ezi]; omega) (by rw [ezi]; omega) (by rw [hmi]; omega) (by rw [hmi, ezi]; omega) (by rw [hmi, ezi]; omega), I_cl (by omega), ez, ckP_t hE, letB_t, bn3_s, hA.x]
/-- behind an add -/
theorem j_grow {σ : St} {η : Eta} (h : AOK η) {l e len m : Nat} (hl : η.1 l = xD24) (hle : gR σ l 1 = some e) (he : η.1 e = (2, 3, len, [])) (h0 : 0 < len) (hlen : len ≤ 1000) (hm : len < m) (hm2 : m ≤ 1000) (hob : ∀ i, i < len → ∀ y, gR σ e i = some y → obS (η.1 y)) : ∃ nl, m ≤ nl ∧ nl ≤ m + len / 2 ∧ fJ2_grow l (I m) σ η = some (η.2.1, pR (pCR (aS σ η.2.1) e η.2.1 0 0 len) l 1 (some η.2.1), aE η (2, 3, nl, []) nl) := by
  have hA : ∀ nl, AOK (aE η (2, 3, nl, []) nl) := fun nl => h.aE n29
  have hll : l ≠ η.2.1 := h.ne (by rw [hl]; decide)
  obtain ⟨nl, n1, n2, n3, n4⟩ := j_newLen (sh := η.1) hlen h0 (show m - len ≤ 1000 by omega) (by omega)
  have hc := j_copyOf (σ := σ) h he hlen (show nl ≤ 3000 by omega) (fun i hi => hob i (by omega))
  rw [Nat.min_eq_right (show len ≤ nl by omega)] at hc
  have e1 : I m - I len = I (m - len) := I_sub (by omega) (by omega)
  refine ⟨nl, by omega, by omega, ?_⟩
  unfold fJ2_grow fJ2_grow_0 fJ2_grow_40
  rw [h.x, ckS_t hl, hle, ckN_s, ckO_t he, letB_t, if_pos (by rw [lt_ti, I_toInt (by omega), Int32.toInt_zero]; omega), e1, n1, bn1_s, ckS_t hl, ckN_s, hc, bn3_s, (hA nl).x, ckS_t ((aE_o hll).trans hl), letB_t]
theorem LstC.ne {σ : St} {sh : Nat → Sh} {l e n : Nat} (h : LstC σ sh l e n) : l ≠ e := by
  intro q
  obtain ⟨h1, -, ⟨len, h3, -⟩, -⟩ := h
  rw [q, h3] at h1
  exact absurd (congrArg Prod.fst h1) (show ¬ (2 : Nat) = 0 by decide)
theorem n24 : (xD24 : Sh).1 ≠ 9 := by decide
theorem LstC.l {σ : St} {η : Eta} (hA : AOK η) {l e n : Nat} (h : LstC σ η.1 l e n) : l ≠ η.2.1 ∧ e ≠ η.2.1 := by
  obtain ⟨h1, -, ⟨len, h3, -⟩, -⟩ := h
  exact ⟨hA.ne (by rw [h1]; exact n24), hA.ne (by rw [h3]; exact n29)⟩
/-- what an add does to a list -/
theorem LstC.add {σ : St} {η : Eta} (h : AOK η) {l e n a : Nat} (hL : LstC σ η.1 l e n) (hn : n ≤ 100) (ha : obS (η.1 a)) (hob : ∀ i, i < n → ∀ y, gR σ e i = some y → obS (η.1 y)) :
    ∃ σ' η' e', fJ2_add l a σ η = some (1, σ', η') ∧ EX η η' ∧ AOK η' ∧ η'.2.1 ≤ η.2.1 + 1 ∧ η'.2.2 ≤ η.2.2 + 200 ∧ LstC σ' η'.1 l e' (n + 1) ∧ (e' = e ∨ e' = η.2.1) ∧ (∀ i, i < n → gR σ' e' i = gR σ e i) ∧ gR σ' e' n = some a ∧ (∀ i, n < i → (e' = e ∧ gR σ' e' i = gR σ e i) ∨ gR σ' e' i = none) ∧ (∀ c, c ≠ l → c ≠ e' → c < η.2.1 → agc σ σ' c) := by
  have hne := hL.ne
  obtain ⟨hll, hle⟩ := hL.l h
  have hL0 := hL
  obtain ⟨h1, h2, ⟨len, h3, h4, h5, h5'⟩, h6, h7⟩ := hL
  have e1 : I n + 1 = I (n + 1) := I_add n 1
  generalize hσ3 : pI σ l 0 (gI σ l 0 + 1) = σ3
  have q1 : gR σ3 l 1 = some e := by rw [← hσ3]; exact h2
  have q2 : gI σ3 l 2 = I n := by rw [← hσ3, gI_pI, if_neg (by omega)]; exact h6
  have q3 : ∀ c i, gR σ3 c i = gR σ c i := fun c i => by rw [← hσ3]; rfl
  have q4 : ∀ c, c ≠ l → agc σ σ3 c := fun c hc => by rw [← hσ3]; exact agc.pI hc
  have head : fJ2_add l a σ η = bn2 (fJ2_add_2 l a e (I n) σ3 η) (fun σ8 η9 => fJ2_add_23 σ8 η9) := by
    unfold fJ2_add fJ2_add_0
    rw [h.x, ckS_t h1, ckS_t h1, letB_t, hσ3, ckS_t h1, q1, ckN_s, ckS_t h1, ckS_t h1, q2]
  by_cases g : n = len
  · subst g
    obtain ⟨nl, n1, n2, n3⟩ := j_grow (σ := σ3) (m := n + 1) h h1 q1 h3 (by omega) (by omega) (by omega) (by omega) (fun i hi y hy => hob i hi y ((q3 e i).symm.trans hy))
    have hA : AOK (aE η (2, 3, nl, []) nl) := h.aE n29
    generalize hσ4 : pR (pCR (aS σ3 η.2.1) e η.2.1 0 0 n) l 1 (some η.2.1) = σ4 at n3
    have hla : (aE η (2, 3, nl, []) nl).1 l = xD24 := (aE_o hll).trans h1
    have haa : obS ((aE η (2, 3, nl, []) nl).1 a) := by rw [aE_o (h.ne (by rw [ha.1]; decide))]; exact ha
    have body : fJ2_add_2 l a e (I n) σ3 η = some (pI (pR σ4 η.2.1 n (some a)) l 2 (I (n + 1)), aE η (2, 3, nl, []) nl) := by
      unfold fJ2_add_2 fJ2_add_2_0 fJ2_grow_2 fJ2_grow_2_0 fJ2_add_2_10 fJ2_add_2_11 fJ2_grow_2_10
      rw [h.x, ckO_t h3, if_pos rfl, ckS_t h1, h.x, ckS_t h1, ckS_t h1, q2, e1, n3, bn3_s, hA.x, bn3_s, hA.x, hA.x, ckO_t (aE_n _ _ _), ckB_t (I_in (by omega) (by omega)), ckP_t haa, letB_t, ckS_t hla, letB_t, I_cl (by omega)]
    rw [head, body, bn2_s]
    unfold fJ2_add_23
    rw [hA.x]
    have g4 : ∀ c i, c ≠ l → c ≠ η.2.1 → gR σ4 c i = gR σ c i := fun c i c1 c2 => by
      rw [← hσ4, gR_pR, if_neg (fun z => c1 z.1), gR_pCR, if_neg c2, gR_aS, if_neg c2, q3]
    have g5 : ∀ i, gR σ4 η.2.1 i = if i < n then gR σ e i else none := fun i => by
      rw [← hσ4, gR_pR, if_neg (fun z => hll z.1.symm), gR_pCR, if_pos rfl]
      by_cases q : i < n
      · rw [pk_cpy_in (Nat.zero_le _) (by omega), if_pos q, gR_aS, if_neg hle, q3, Nat.zero_add, Nat.sub_zero]
      · rw [pk_cpy_out (Or.inr (by omega)), if_neg q, gR_aS, if_pos rfl]
    refine ⟨_, _, η.2.1, rfl, EX.aE n29, hA, Nat.le_refl _, ?_, ⟨hla, ?_, ⟨nl, aE_n _ _ _, by omega, by omega, by omega⟩, ?_, by omega⟩, Or.inr rfl, fun i hi => ?_, ?_, fun i hi => Or.inr ?_, fun c c1 c2 c3 => ?_⟩
    · show η.2.2 + nl ≤ η.2.2 + 200
      omega
    · show gR (pR σ4 η.2.1 n (some a)) l 1 = _
      rw [gR_pR, if_neg (fun z => hll z.1), ← hσ4, gR_pR, if_pos ⟨rfl, rfl⟩]
    · rw [gI_pI, if_pos ⟨rfl, rfl⟩]
    · show gR (pR σ4 η.2.1 n (some a)) η.2.1 i = _
      rw [gR_pR, if_neg (by omega), g5, if_pos hi]
    · show gR (pR σ4 η.2.1 n (some a)) η.2.1 n = _
      rw [gR_pR, if_pos ⟨rfl, rfl⟩]
    · show gR (pR σ4 η.2.1 n (some a)) η.2.1 i = _
      rw [gR_pR, if_neg (by omega), g5, if_neg (by omega)]
    · have c4 : c ≠ η.2.1 := by omega
      refine (q4 c c1).tr (((?_ : agc σ3 σ4 c).tr (agc.pR c2)).tr (agc.pI c1))
      rw [← hσ4]
      exact ((agc.aS c4).tr (agc.pCR c4)).tr (agc.pR c1)
  · have body : fJ2_add_2 l a e (I n) σ3 η = some (pI (pR σ3 e n (some a)) l 2 (I (n + 1)), η) := by
      unfold fJ2_add_2 fJ2_add_2_0 fJ2_add_2_11
      rw [h.x, ckO_t h3, if_neg (fun z => g ((I_eq (by omega) (by omega)).mp z)), h.x, ckO_t h3, ckB_t (I_in (by omega) (by omega)), ckP_t ha, letB_t, ckS_t h1, letB_t, I_cl (by omega), e1]
    rw [head, body, bn2_s]
    unfold fJ2_add_23
    rw [h.x]
    refine ⟨_, _, e, rfl, EX.rf, h, by omega, by omega, ⟨h1, ?_, ⟨len, h3, by omega, h5, h5'⟩, ?_, by omega⟩, Or.inl rfl, fun i hi => ?_, ?_, fun i hi => Or.inl ⟨rfl, ?_⟩, fun c c1 c2 c3 => ((q4 c c1).tr (agc.pR c2)).tr (agc.pI c1)⟩
    · show gR (pR σ3 e n (some a)) l 1 = _
      rw [gR_pR, if_neg (fun z => hne z.1)]; exact q1
    · rw [gI_pI, if_pos ⟨rfl, rfl⟩]
    · show gR (pR σ3 e n (some a)) e i = _
      rw [gR_pR, if_neg (by omega)]; exact q3 e i
    · show gR (pR σ3 e n (some a)) e n = _
      rw [gR_pR, if_pos ⟨rfl, rfl⟩]
    · show gR (pR σ3 e n (some a)) e i = _
      rw [gR_pR, if_neg (by omega)]; exact q3 e i
