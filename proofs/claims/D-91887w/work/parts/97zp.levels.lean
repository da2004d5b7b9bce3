/-! the plain law: levels: bits of rows -/
set_option maxRecDepth 100000
theorem mem_addL : ∀ (ws L : List Nat) (x : Nat), x ∈ addL L ws → x ∈ L ∨ x ∈ ws
  | [], L, x, h => Or.inl h
  | w :: ws, L, x, h => by
    rcases mem_addL ws (add1 L w) x h with z | z
    · by_cases q : w ∈ L
      · rw [add1_in q] at z; exact Or.inl z
      · rw [add1_out q] at z
        rcases List.mem_append.mp z with y | y
        · exact Or.inl y
        · rw [List.mem_singleton.mp y]; exact Or.inr List.mem_cons_self
    · exact Or.inr (List.mem_cons_of_mem _ z)
theorem mv1_lt {n v a b p x : Nat} (hv : v < 9 ^ n) (hb : b < n) (h : x ∈ mv1 n v a b p) : x < 9 ^ n := by
  by_cases q : (nearP a p ∨ nearP b p) ∧ 1 ≤ dg n v a ∧ dg n v b < 8
  · rw [mv1_yes q, List.mem_singleton] at h
    subst h
    have h1 := dg_up hb hv q.2.2
    have h2 : v - 9 ^ (n - 1 - a) ≤ v := Nat.sub_le _ _
    omega
  · rw [mv1_no q] at h
    exact absurd h (by simp)
theorem mvs_lt {n v p x : Nat} (hv : v < 9 ^ n) (h : x ∈ mvs n v p) : x < 9 ^ n := by
  rw [mvs_A, List.mem_flatMap] at h
  obtain ⟨a, ha, h⟩ := h
  have ha := List.mem_range.mp ha
  unfold mvA at h
  rcases List.mem_append.mp h with z | z
  · by_cases q : a = 0
    · rw [if_pos q] at z; exact absurd z (by simp)
    · rw [if_neg q] at z; exact mv1_lt hv (by omega) z
  · by_cases q : a + 1 < n
    · rw [if_pos q] at z; exact mv1_lt hv q z
    · rw [if_neg q] at z; exact absurd z (by simp)
theorem rnd_lt {n p : Nat} : ∀ (ws A : List Nat), (∀ x, x ∈ ws → x < 9 ^ n) → (∀ x, x ∈ A → x < 9 ^ n) → ∀ x, x ∈ ws.foldl (fun acc v => addL acc (mvs n v p)) A → x < 9 ^ n
  | [], A, _, hA, x, hx => hA x hx
  | v :: ws, A, hw, hA, x, hx => rnd_lt ws (addL A (mvs n v p)) (fun y hy => hw y (List.mem_cons_of_mem _ hy)) (fun y hy => by
    rcases mem_addL _ _ _ hy with z | z
    · exact hA y z
    · exact mvs_lt (hw v List.mem_cons_self) z) x hx
theorem rnds_lt {n p : Nat} : ∀ (k : Nat) (L : List Nat) (fr : Nat), (∀ x, x ∈ L → x < 9 ^ n) → ∀ x, x ∈ rnds n p k L fr → x < 9 ^ n
  | 0, L, _, h, x, hx => h x hx
  | k + 1, L, fr, h, x, hx => rnds_lt k _ _ (rnd_lt _ L (fun y hy => h y (List.mem_of_mem_drop hy)) h) x hx
theorem spr_lt {n tg bl v p x : Nat} (hv : v < 9 ^ n) (h : x ∈ spr n tg bl v p) : x < 9 ^ n := by
  rw [spr_e] at h
  by_cases q : held n tg v p = true
  · rw [if_pos q] at h
    exact rnds_lt _ _ _ (fun y hy => by rw [List.mem_singleton.mp hy]; exact spr0_lt hv) x h
  · rw [if_neg q] at h
    exact absurd h (by simp)
theorem lev_lt {n tg bl first : Nat} (hf : first < 9 ^ n) : ∀ {h v : Nat}, lev n tg bl first h v → v < 9 ^ n
  | 0, v, hl => by
    have : v = first := hl
    omega
  | h + 1, w, hl => by
    obtain ⟨v, p, h1, h2, h3⟩ := hl
    exact spr_lt (lev_lt hf h1) h3
/-- the bits of an array: bit i of v by P -/
def BA (c : Nat) (P : Nat → Nat → Prop) (σ : St) : Prop := ∀ v, v < 59049 → ∃ t : Nat, t < 128 ∧ gA σ c v = I t ∧ ∀ i, i < 7 → (t.testBit i = true ↔ P i v)
theorem BA.cg {c : Nat} {P P' : Nat → Nat → Prop} {σ σ' : St} (h : BA c P σ) (hc : ∀ v, gA σ' c v = gA σ c v) (hP : ∀ i v, i < 7 → v < 59049 → (P i v ↔ P' i v)) : BA c P' σ' := fun v hv => by
  obtain ⟨t, h1, h2, h3⟩ := h v hv
  exact ⟨t, h1, by rw [hc]; exact h2, fun i hi => (h3 i hi).trans (hP i v hi hv)⟩
theorem BA.bit {c : Nat} {P : Nat → Nat → Prop} {σ : St} (h : BA c P σ) {v i : Nat} (hv : v < 59049) (hi : i < 7) : (P i v ∧ (gA σ c v >>> (I i &&& 31)) &&& 1 = 1) ∨ (¬ P i v ∧ (gA σ c v >>> (I i &&& 31)) &&& 1 = 0) := by
  obtain ⟨t, h1, h2, h3⟩ := h v hv
  rw [h2, bit_t t (by omega) i (by omega)]
  by_cases q : t.testBit i = true
  · rw [if_pos q]; exact Or.inl ⟨(h3 i hi).mp q, rfl⟩
  · rw [if_neg q]; exact Or.inr ⟨fun y => q ((h3 i hi).mpr y), rfl⟩
theorem BA.set {c : Nat} {P : Nat → Nat → Prop} {σ σ' : St} (h : BA c P σ) {v i : Nat} (hi : i < 7) {x : Int32} (hx : ∀ t, t < 128 → gA σ c v = I t → x = I (t ||| 2 ^ i)) (hc : ∀ w, gA σ' c w = upf (gA σ c) v x w) : BA c (fun j w => P j w ∨ (j = i ∧ w = v)) σ' := fun w hw => by
  obtain ⟨t, h1, h2, h3⟩ := h w hw
  rw [hc]
  unfold upf
  by_cases q : w = v
  · subst q
    rw [if_pos rfl]
    have hb : ∀ t, t < 128 → ∀ i, i < 7 → (t ||| 2 ^ i) < 128 := by decide +kernel
    refine ⟨t ||| 2 ^ i, hb t h1 i hi, hx t h1 h2, fun j hj => ?_⟩
    rw [bit_up, Bool.or_eq_true, decide_eq_true_eq, h3 j hj]
    exact ⟨fun y => y.imp id (fun z => ⟨z.symm, rfl⟩), fun y => y.imp id (fun z => z.1.symm)⟩
  · rw [if_neg q]
    exact ⟨t, h1, h2, fun j hj => (h3 j hj).trans ⟨Or.inl, fun y => y.elim id (fun z => absurd z.2 q)⟩⟩
theorem bset_b : ∀ t, t < 128 → ∀ h, h < 7 → ((I t ||| ((1 <<< (I h &&& 31)).toInt8.toInt32)).toInt8.toInt32).toInt8.toInt32 = I (t ||| 2 ^ h) := by decide +kernel
theorem cnt_le (P : Nat → Prop) : ∀ N, cnt P N ≤ N
  | 0 => Nat.le_refl _
  | N + 1 => by
    have := cnt_le P N
    unfold cnt
    split <;> omega
theorem cnt_cg {P P' : Nat → Prop} : ∀ {N : Nat}, (∀ v, v < N → (P v ↔ P' v)) → cnt P N = cnt P' N
  | 0, _ => rfl
  | N + 1, h => by
    unfold cnt
    rw [cnt_cg (fun v hv => h v (by omega))]
    by_cases q : P N
    · rw [if_pos q, if_pos ((h N (by omega)).mp q)]
    · rw [if_neg q, if_neg (fun y => q ((h N (by omega)).mpr y))]
theorem cnt_add {P : Nat → Prop} {v : Nat} (hv : ¬ P v) : ∀ {N : Nat}, v < N → cnt (fun w => P w ∨ w = v) N = cnt P N + 1
  | 0, h => absurd h (by omega)
  | N + 1, h => by
    unfold cnt
    by_cases q : N = v
    · have e : cnt (fun w => P w ∨ w = v) N = cnt P N := cnt_cg (fun w hw => ⟨fun y => y.elim id (fun z => by omega), Or.inl⟩)
      rw [e, if_pos (Or.inr q), if_neg (fun y => hv (q ▸ y))]
    · rw [cnt_add hv (show v < N by omega)]
      by_cases y : P N
      · rw [if_pos (Or.inl y), if_pos y]
      · rw [if_neg (fun z => z.elim y q), if_neg y]
theorem cnt_none {P : Nat → Prop} : ∀ {N : Nat}, (∀ v, v < N → ¬ P v) → cnt P N = 0
  | 0, _ => rfl
  | N + 1, h => by
    unfold cnt
    rw [cnt_none (fun v hv => h v (by omega)), if_neg (h N (by omega))]
/-- a loop that clears an array -/
theorem clear_l {f : Int32 × St → Option (St ⊕ (Int32 × St))} {c : Nat} (hf : ∀ k s, k < 59049 → f (I k, s) = some (.inr (I (k + 1), pA s c k 0))) (he : ∀ s, f (I 59049, s) = some (.inl s)) (σ : St) : ∃ σ', iter f FU (0, σ) = some σ' ∧ (∀ d, d ≠ c → agc σ σ' d) ∧ ∀ v, v < 59049 → gA σ' c v = 0 := by
  have := Rn.up (f := f) (I := fun k v => v.1 = I k ∧ (∀ d, d ≠ c → agc σ v.2 d) ∧ ∀ i, i < k → gA v.2 c i = 0) (P := fun σ' => (∀ d, d ≠ c → agc σ σ' d) ∧ ∀ v, v < 59049 → gA σ' c v = 0) 59049 (fun k v hk hI => ?_) (fun v hI => ?_) (0, σ) ⟨rfl, fun d _ => agc.rf, fun i hi => absurd hi (by omega)⟩ (by rw [FU_v]; omega)
  · exact this
  · obtain ⟨i, s⟩ := v
    obtain ⟨e, h2, h3⟩ := hI
    have e : i = I k := e
    subst e
    refine ⟨_, hf k s hk, rfl, fun d hd => (h2 d hd).tr (agc.pA hd), fun i hi => ?_⟩
    show gA (pA s c k 0) c i = 0
    rw [gA_upf]
    unfold upf
    by_cases q : i = k
    · rw [if_pos q]
    · rw [if_neg q]; exact h3 i (by omega)
  · obtain ⟨i, s⟩ := v
    obtain ⟨e, h2, h3⟩ := hI
    have e : i = I 59049 := e
    subst e
    exact ⟨s, he s, h2, h3⟩
/-- a bit array that is clear but for one row -/
theorem BA.first {c a : Nat} {σ σ' : St} (h : ∀ v, v < 59049 → gA σ c v = 0) (h' : ∀ w, gA σ' c w = upf (gA σ c) a 1 w) : BA c (fun i v => i = 0 ∧ v = a) σ' := fun v hv => by
  rw [h']
  unfold upf
  by_cases q : v = a
  · rw [if_pos q]
    refine ⟨1, by omega, rfl, fun i hi => ?_⟩
    have : ∀ i, i < 7 → ((1 : Nat).testBit i = true ↔ i = 0) := by decide
    exact (this i hi).trans ⟨fun y => ⟨y, q⟩, fun y => y.1⟩
  · rw [if_neg q, h v hv]
    refine ⟨0, by omega, rfl, fun i _ => ⟨fun y => ?_, fun y => absurd y.2 q⟩⟩
    rw [Nat.zero_testBit] at y
    cases y
theorem BA.none {c : Nat} {σ : St} (h : ∀ v, v < 59049 → gA σ c v = 0) : BA c (fun _ _ => False) σ := fun v hv => ⟨0, by omega, h v hv, fun i _ => ⟨fun y => absurd y (by rw [Nat.zero_testBit]; decide), False.elim⟩⟩
