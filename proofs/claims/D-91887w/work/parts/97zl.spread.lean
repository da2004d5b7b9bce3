/-! the plain law: what a heat leads to: numbers, one row added -/
set_option maxRecDepth 100000
theorem i_div {a b : Nat} (ha : a < 2147483648) (hb : b < 2147483648) (h0 : 0 < b) : I a / I b = I (a / b) := by
  have hq : a / b ≤ a := Nat.div_le_self _ _
  apply Int32.toInt_inj.mp
  rw [Int32.toInt_div, I_toInt ha, I_toInt hb, ← Int.ofNat_tdiv]
  generalize a / b = z at hq
  rw [I_toInt (by omega), Int.bmod_eq_of_le (by omega) (by omega)]
theorem i_mod9 {r : Nat} (h : r < 2147483648) : I r - I r / 9 * 9 = I (r % 9) := by
  have e : I r / 9 = I (r / 9) := i_div (b := 9) h (by omega) (by omega)
  rw [e, show (9 : Int32) = I 9 from rfl, I_mul, I_sub (by omega) h]
  congr 1
  omega
theorem pow9_le {n e : Nat} (hn : n ≤ 5) (he : e ≤ n) : 9 ^ e ≤ 59049 := Nat.pow_le_pow_right (n := 9) (j := 5) (by omega) (by omega)
theorem dg_lt (n v c : Nat) : dg n v c < 9 := Nat.mod_lt _ (by omega)
theorem iron_val {n v c : Nat} {w : Int32} (hn : n ≤ 5) (hv : v < 2147483648) (hw : w = I (9 ^ (n - 1 - c))) : ¬ w = 0 ∧ (I v / w - I v / w / 9 * 9) + 1 = I (dg n v c + 1) := by
  have hp := pow9_le hn (show n - 1 - c ≤ n by omega)
  have h0 : 0 < 9 ^ (n - 1 - c) := Nat.pow_pos (by omega)
  have hq : v / 9 ^ (n - 1 - c) ≤ v := Nat.div_le_self _ _
  refine ⟨fun y => ?_, ?_⟩
  · rw [hw] at y
    have := (I_eq (b := 0) (by omega) (by omega)).mp y
    omega
  · rw [hw, i_div hv (by omega) h0, i_mod9 (by omega)]
    exact I_add _ 1
theorem x_iron {q n v c : Nat} {σ : St} (hn : n ≤ 5) (hc : c < n) (hv : v < 2147483648) (hp : powOK n (gA σ (q + 7))) : fX3_ironAt q (I v) (I c) σ = some (I (dg n v c + 1)) := by
  obtain ⟨h1, h2⟩ := iron_val (v := v) hn hv (hp c hc)
  unfold fX3_ironAt
  rw [ckB_t (I_in (by omega) (by omega)), I_cl (by omega), ckD_t h1, h2]
theorem m_iron {n v c : Nat} {σ : St} (hn : n ≤ 5) (hc : c < n) (hv : v < 2147483648) (hp : powOK n (gA σ 18)) : fX6_ironOf (I v) (I c) σ = some (I (dg n v c + 1)) := by
  obtain ⟨h1, h2⟩ := iron_val (v := v) hn hv (hp c hc)
  unfold fX6_ironOf
  rw [ckB_t (I_in (by omega) (by omega)), I_cl (by omega), ckD_t h1, h2]
theorem dg_low {n v c : Nat} (h : 1 ≤ dg n v c) : 9 ^ (n - 1 - c) ≤ v := by
  unfold dg at h
  rcases Nat.lt_or_ge v (9 ^ (n - 1 - c)) with q | q
  · rw [Nat.div_eq_of_lt q] at h
    omega
  · exact q
theorem dg_up {n v c : Nat} (hc : c < n) (hv : v < 9 ^ n) (h : dg n v c < 8) : v + 9 ^ (n - 1 - c) < 9 ^ n := by
  unfold dg at h
  have h0 : 0 < 9 ^ (n - 1 - c) := Nat.pow_pos (by omega)
  generalize he : n - 1 - c = e at h h0
  have en : 9 ^ n = 9 ^ e * 9 * 9 ^ (n - 1 - e) := by
    rw [← Nat.pow_succ, ← Nat.pow_add]
    congr 1
    omega
  generalize hP : 9 ^ e = P at h h0 en
  generalize hR : 9 ^ (n - 1 - e) = R at en
  -- v = P * (9 * a + d) + r
  have d1 := Nat.div_add_mod v P
  have d2 := Nat.div_add_mod (v / P) 9
  have r1 := Nat.mod_lt v h0
  generalize v % P = r at d1 r1
  generalize v / P % 9 = d at h d2
  have e2 : v = P * (9 * (v / P / 9) + d) + r := by rw [d2]; exact d1.symm
  generalize v / P / 9 = a at e2
  have ha : a < R := by
    rcases Nat.lt_or_ge a R with q | q
    · exact q
    · exfalso
      have h1 : P * 9 * R ≤ P * 9 * a := Nat.mul_le_mul_left _ q
      have h2 : P * (9 * a + d) = P * 9 * a + P * d := by rw [Nat.mul_add, Nat.mul_assoc]
      omega
  have h1 : P * 9 * (a + 1) ≤ P * 9 * R := Nat.mul_le_mul_left _ ha
  have h2 : P * (9 * a + d) = P * 9 * a + P * d := by rw [Nat.mul_add, Nat.mul_assoc]
  have h3 : P * 9 * (a + 1) = P * 9 * a + P * 9 := by rw [Nat.mul_add, Nat.mul_one]
  have h4 : P * (d + 1) ≤ P * 8 := Nat.mul_le_mul_left _ (by omega)
  have h5 : P * (d + 1) = P * d + P := by rw [Nat.mul_add, Nat.mul_one]
  omega
theorem nodup_lt : ∀ (N : Nat) (L : List Nat), L.Nodup → (∀ x, x ∈ L → x < N) → L.length ≤ N
  | 0, L, _, h => by
    cases L with
    | nil => exact Nat.le_refl _
    | cons a t => exact absurd (h a List.mem_cons_self) (by omega)
  | N + 1, L, hn, h => by
    by_cases q : N ∈ L
    · obtain ⟨l, r, rfl⟩ := List.append_of_mem q
      rw [List.nodup_append, List.nodup_cons] at hn
      have := nodup_lt N (l ++ r) (by
        rw [List.nodup_append]
        exact ⟨hn.1, hn.2.1.2, fun a ha b hb => hn.2.2 a ha b (List.mem_cons_of_mem _ hb)⟩) (fun x hx => by
        have hx2 : x ∈ l ++ N :: r := by
          rcases List.mem_append.mp hx with z | z
          · exact List.mem_append_left _ z
          · exact List.mem_append_right _ (List.mem_cons_of_mem _ z)
        have h1 := h x hx2
        have h2 : x ≠ N := fun y => by
          subst y
          rcases List.mem_append.mp hx with z | z
          · exact hn.2.2 x z x List.mem_cons_self rfl
          · exact hn.2.1.1 z
        omega)
      simp at this ⊢
      omega
    · have := nodup_lt N L hn (fun x hx => by
        have h1 := h x hx
        have h2 : x ≠ N := fun y => q (y ▸ hx)
        omega)
      omega
/-- rows that were found: L, by the stamp m; many at (cm, fm), the stamp at (cm, fk), stamps in cs, rows in cf -/
def SpL (cm fm fk cs cf : Nat) (L : List Nat) (m : Nat) (σ : St) : Prop := gI σ cm fm = I L.length ∧ gI σ cm fk = I m ∧ (∀ i x, L[i]? = some x → gA σ cf i = I x) ∧ (∀ x, x ∈ L → x < 59049) ∧ L.Nodup ∧ ∀ r, r < 59049 → (gA σ cs r = I m ↔ r ∈ L) ∧ 0 ≤ (gA σ cs r).toInt ∧ (gA σ cs r).toInt ≤ m
def add1 (L : List Nat) (w : Nat) : List Nat := if L.contains w then L else L ++ [w]
theorem addL_cons (L : List Nat) (w : Nat) (ws : List Nat) : addL L (w :: ws) = addL (add1 L w) ws := rfl
theorem addL_nil (L : List Nat) : addL L [] = L := rfl
theorem addL_app (L A B : List Nat) : addL L (A ++ B) = addL (addL L A) B := List.foldl_append
theorem add1_in {L : List Nat} {w : Nat} (h : w ∈ L) : add1 L w = L := if_pos (by simpa using h)
theorem add1_out {L : List Nat} {w : Nat} (h : w ∉ L) : add1 L w = L ++ [w] := if_neg (by simpa using h)
theorem SpL.len {cm fm fk cs cf m : Nat} {L : List Nat} {σ : St} (h : SpL cm fm fk cs cf L m σ) : L.length ≤ 59049 := nodup_lt _ L h.2.2.2.2.1 h.2.2.2.1
/-- one more -/
theorem SpL.more {cm fm fk cs cf m w : Nat} {L : List Nat} {σ σ' : St} (h : SpL cm fm fk cs cf L m σ) (hm : m < 2147483648) (hw : w < 59049) (hL : w ∉ L) (h1 : gI σ' cm fm = I (L.length + 1)) (h2 : gI σ' cm fk = gI σ cm fk) (h3 : ∀ i, gA σ' cf i = upf (gA σ cf) L.length (I w) i) (h4 : ∀ r, gA σ' cs r = upf (gA σ cs) w (I m) r) : SpL cm fm fk cs cf (L ++ [w]) m σ' := by
  obtain ⟨a1, a2, a3, a4, a5, a6⟩ := h
  refine ⟨by rw [h1]; simp, h2.trans a2, fun i x hi => ?_, fun x hx => ?_, ?_, fun r hr => ?_⟩
  · rw [h3]
    unfold upf
    by_cases q : i = L.length
    · rw [if_pos q]
      rw [q, List.getElem?_append_right (Nat.le_refl _), Nat.sub_self] at hi
      cases hi
      rfl
    · rw [if_neg q]
      have hlt := (List.getElem?_eq_some_iff.mp hi).1
      rw [List.length_append, List.length_singleton] at hlt
      rw [List.getElem?_append_left (by omega)] at hi
      exact a3 i x hi
  · rcases List.mem_append.mp hx with z | z
    · exact a4 x z
    · rw [List.mem_singleton.mp z]; exact hw
  · rw [List.nodup_append]
    refine ⟨a5, by simp, fun a ha b hb => ?_⟩
    rw [List.mem_singleton.mp hb]
    exact fun q => hL (q ▸ ha)
  · rw [h4]
    unfold upf
    by_cases q : r = w
    · rw [if_pos q]
      refine ⟨⟨fun _ => List.mem_append_right _ (List.mem_singleton.mpr q), fun _ => rfl⟩, ?_⟩
      rw [I_toInt hm]
      omega
    · rw [if_neg q]
      refine ⟨⟨fun z => List.mem_append_left _ ((a6 r hr).1.mp z), fun z => ?_⟩, (a6 r hr).2⟩
      rcases List.mem_append.mp z with z | z
      · exact (a6 r hr).1.mpr z
      · exact absurd (List.mem_singleton.mp z) q
/-- x adds a row -/
theorem x_adds {q m w d : Nat} {L : List Nat} {σ : St} (h : SpL q 12 13 (q + 4) (q + 5) L m σ) (hm : m < 2147483648) (hw : w < 59049) : ∃ σ', fX3_adds q (I w) (I d) σ = some σ' ∧ SpL q 12 13 (q + 4) (q + 5) (add1 L w) m σ' ∧ (∀ c, c ≠ q → c ≠ q + 4 → c ≠ q + 5 → c ≠ q + 6 → agc σ σ' c) ∧ (∀ k, k ≠ 12 → gI σ' q k = gI σ q k) ∧ (∀ i, gA σ' (q + 6) i = if i = L.length ∧ w ∉ L then I d else gA σ (q + 6) i) := by
  have hl := h.len
  have h' := h
  obtain ⟨a1, a2, a3, a4, a5, a6⟩ := h
  unfold fX3_adds
  rw [ckB_t (I_in (by omega) (by omega)), I_cl (by omega), a2]
  by_cases z : w ∈ L
  · rw [if_pos ((a6 w hw).1.mpr z), add1_in z]
    exact ⟨σ, rfl, h', fun _ _ _ _ _ => agc.rf, fun _ _ => rfl, fun i => by rw [if_neg (fun y => y.2 z)]⟩
  · rw [if_neg (fun y => z ((a6 w hw).1.mp y)), add1_out z]
    have hlt : L.length + 1 ≤ 59049 := by
      have := nodup_lt 59049 (L ++ [w]) (by
        rw [List.nodup_append]
        exact ⟨a5, by simp, fun a ha b hb => by rw [List.mem_singleton.mp hb]; exact fun y => z (y ▸ ha)⟩) (fun x hx => by
        rcases List.mem_append.mp hx with y | y
        · exact a4 x y
        · rw [List.mem_singleton.mp y]; exact hw)
      simpa using this
    simp only [letB, gI_pA]
    rw [ckB_t (I_in (by omega) (by omega)), a1, ckB_t (I_in (by omega) (by omega)), ckB_t (I_in (by omega) (by omega)), I_cl (by omega), show I L.length + 1 = I (L.length + 1) from I_add _ 1]
    refine ⟨_, rfl, h'.more hm hw z (by rw [gI_pI, if_pos ⟨rfl, rfl⟩]) (by rw [gI_pI, if_neg (by omega)]; rfl) (fun i => ?_) (fun r => ?_), fun c c1 c2 c3 c4 => (((agc.pA c2).tr (agc.pA c3)).tr (agc.pA c4)).tr (agc.pI c1), fun k hk => ?_, fun i => ?_⟩
    · rw [gA_pI_f, gA_pA_n (by omega), gA_upf, gA_pA_n (by omega)]
    · rw [gA_pI_f, gA_pA_n (by omega), gA_pA_n (by omega), gA_upf]
    · rw [gI_pI, if_neg (fun y => hk y.2)]
      rfl
    · rw [gA_pI_f, gA_upf, gA_pA_n (by omega), gA_pA_n (by omega)]
      unfold upf
      by_cases y : i = L.length
      · rw [if_pos y, if_pos ⟨y, z⟩]
      · rw [if_neg y, if_neg (fun t => y t.1)]
/-- the model adds a row -/
theorem m_reach {m w : Nat} {L : List Nat} {σ : St} (h : SpL 0 58 56 23 24 L m σ) (hm : m < 2147483648) (hw : w < 59049) : ∃ σ', fX6_reach (I w) σ = some σ' ∧ SpL 0 58 56 23 24 (add1 L w) m σ' ∧ (∀ c, c ≠ 0 → c ≠ 23 → c ≠ 24 → agc σ σ' c) ∧ (∀ k, k ≠ 58 → gI σ' 0 k = gI σ 0 k) := by
  have hl := h.len
  have h' := h
  obtain ⟨a1, a2, a3, a4, a5, a6⟩ := h
  unfold fX6_reach
  rw [ckB_t (I_in (by omega) (by omega)), I_cl (by omega), a2]
  by_cases z : w ∈ L
  · rw [if_pos ((a6 w hw).1.mpr z), add1_in z]
    exact ⟨σ, rfl, h', fun _ _ _ _ => agc.rf, fun _ _ => rfl⟩
  · rw [if_neg (fun y => z ((a6 w hw).1.mp y)), add1_out z]
    have hlt : L.length + 1 ≤ 59049 := by
      have := nodup_lt 59049 (L ++ [w]) (by
        rw [List.nodup_append]
        exact ⟨a5, by simp, fun a ha b hb => by rw [List.mem_singleton.mp hb]; exact fun y => z (y ▸ ha)⟩) (fun x hx => by
        rcases List.mem_append.mp hx with y | y
        · exact a4 x y
        · rw [List.mem_singleton.mp y]; exact hw)
      simpa using this
    simp only [letB, gI_pA]
    rw [ckB_t (I_in (by omega) (by omega)), a1, ckB_t (I_in (by omega) (by omega)), I_cl (by omega), show I L.length + 1 = I (L.length + 1) from I_add _ 1]
    refine ⟨_, rfl, h'.more hm hw z (by rw [gI_pI, if_pos ⟨rfl, rfl⟩]) (by rw [gI_pI, if_neg (by omega)]; rfl) (fun i => ?_) (fun r => ?_), fun c c1 c2 c3 => ((agc.pA c2).tr (agc.pA c3)).tr (agc.pI c1), fun k hk => ?_⟩
    · rw [gA_pI_f, gA_upf, gA_pA_n (by omega)]
    · rw [gA_pI_f, gA_pA_n (by omega), gA_upf]
    · rw [gI_pI, if_neg (fun y => hk y.2)]
      rfl
