/-! the plain law: tests, both sides -/
set_option maxRecDepth 100000
theorem TestC.sh {F : Nat → Prop} {σ : St} {sh : Nat → Sh} : ∀ (n a : Nat) (c : List (Int32 × Int32)), TestC F σ sh n a c → sh a = xD20 ∨ sh a = xD21 ∨ sh a = xD22 := by
  intro n
  induction n with
  | zero => intro a c h; exact h.elim
  | succ n ih =>
    intro a c h
    obtain ⟨-, d, -, -, h | h | h⟩ := h
    · exact Or.inl h.1
    · exact Or.inr (Or.inl h.1)
    · exact Or.inr (Or.inr h.1)
theorem and_fold : ∀ (vs : List Int32) (a : Int32), (a = 0 ∨ a = 1) → (∀ v, v ∈ vs → v = 0 ∨ v = 1) → (vs.foldl (fun x y => x &&& y) a = if a = 1 ∧ ∀ v, v ∈ vs → v = 1 then 1 else 0) := by
  intro vs
  induction vs with
  | nil =>
    intro a ha _
    rcases ha with rfl | rfl
    · simp
    · simp
  | cons w vs ih =>
    intro a ha hv
    have hw := hv w List.mem_cons_self
    have h := ih (a &&& w) (by rcases ha with rfl | rfl <;> rcases hw with rfl | rfl <;> decide) (fun v q => hv v (List.mem_cons_of_mem _ q))
    rw [List.foldl_cons, h]
    refine if_cg ?_
    have e : a &&& w = 1 ↔ a = 1 ∧ w = 1 := by rcases ha with rfl | rfl <;> rcases hw with rfl | rfl <;> decide
    rw [e]
    constructor
    · rintro ⟨⟨h1, h2⟩, h3⟩
      exact ⟨h1, fun v q => (List.mem_cons.mp q).elim (fun z => by rw [z]; exact h2) (h3 v)⟩
    · rintro ⟨h1, h3⟩
      exact ⟨⟨h1, h3 w List.mem_cons_self⟩, fun v q => h3 v (List.mem_cons_of_mem _ q)⟩
theorem or_fold : ∀ (vs : List Int32) (a : Int32), (a = 0 ∨ a = 1) → (∀ v, v ∈ vs → v = 0 ∨ v = 1) → (vs.foldl (fun x y => x ||| y) a = if a = 0 ∧ ∀ v, v ∈ vs → v = 0 then 0 else 1) := by
  intro vs
  induction vs with
  | nil =>
    intro a ha _
    rcases ha with rfl | rfl
    · simp
    · simp
  | cons w vs ih =>
    intro a ha hv
    have hw := hv w List.mem_cons_self
    have h := ih (a ||| w) (by rcases ha with rfl | rfl <;> rcases hw with rfl | rfl <;> decide) (fun v q => hv v (List.mem_cons_of_mem _ q))
    rw [List.foldl_cons, h]
    refine if_cg ?_
    have e : a ||| w = 0 ↔ a = 0 ∧ w = 0 := by rcases ha with rfl | rfl <;> rcases hw with rfl | rfl <;> decide
    rw [e]
    constructor
    · rintro ⟨⟨h1, h2⟩, h3⟩
      exact ⟨h1, fun v q => (List.mem_cons.mp q).elim (fun z => by rw [z]; exact h2) (h3 v)⟩
    · rintro ⟨h1, h3⟩
      exact ⟨⟨h1, h3 w List.mem_cons_self⟩, fun v q => h3 v (List.mem_cons_of_mem _ q)⟩
section TB
variable {F : Nat → Prop} {σ : St} {sh : Nat → Sh} {q : Nat} {σm : St} {t : Nat}
/-- several joined by op -/
theorem sev_M (ht : t ≤ 7060) {op : Int32} {J : Int32 → Int32 → Int32} (hop : 4 < op ∧ ¬ op = 27 ∧ op < 32) (hJ : ∀ a b, fX6_joined op a b = some (J a b)) {k : Nat} {P : Nat → Int32 → Prop} : ∀ (ds : List (List (Int32 × Int32))) (off : Nat) (acc : List (Int32 × Int32)) (va : Int32), MEv t k σm acc va → 1 ≤ acc.length → cAt (gA σm 2) t k (ds.foldl (fun acc x => acc ++ x ++ [(op, 0)]) acc) → (∀ i d, ds[i]? = some d → ∀ k', cAt (gA σm 2) t k' d → ∃ v, (v = 0 ∨ v = 1) ∧ P (off + i) v ∧ MEv t k' σm d v) → ∃ vs : List Int32, vs.length = ds.length ∧ (∀ i v, vs[i]? = some v → (v = 0 ∨ v = 1) ∧ P (off + i) v) ∧ MEv t k σm (ds.foldl (fun acc x => acc ++ x ++ [(op, 0)]) acc) (vs.foldl J va) ∧ 1 ≤ (ds.foldl (fun acc x => acc ++ x ++ [(op, 0)]) acc).length := by
  intro ds
  induction ds with
  | nil => intro off acc va h1 h2 h3 h4; exact ⟨[], rfl, fun i v q => by simp at q, h1, h2⟩
  | cons d ds ih =>
    intro off acc va h1 h2 h3 h4
    rw [List.foldl_cons] at h3 ⊢
    have pre : ∀ (ds : List (List (Int32 × Int32))) (acc : List (Int32 × Int32)), cAt (gA σm 2) t k (ds.foldl (fun acc x => acc ++ x ++ [(op, 0)]) acc) → cAt (gA σm 2) t k acc := by
      intro ds
      induction ds with
      | nil => intro acc h; exact h
      | cons d ds ih2 => intro acc h; rw [List.foldl_cons] at h; exact (ih2 _ h).app.1.app.1
    have ha := pre ds _ h3
    obtain ⟨v, v1, v2, v3⟩ := h4 0 d rfl (k + acc.length) ha.app.1.app.2
    have hs := ha.app.2
    rw [List.length_append, ← Nat.add_assoc] at hs
    have hb := h1.bin (q := (op, 0)) (r := J va v) v3 (fun n last g z1 z2 z3 z4 z5 => r_bin z4 z5 ht z3 hop.1 hop.2.1 hop.2.2 (by rw [z1, z2]; exact hJ _ _) hs) h2
    obtain ⟨vs, w1, w2, w3, w4⟩ := ih (off + 1) (acc ++ d ++ [(op, 0)]) (J va v) hb (by rw [List.length_append, List.length_singleton]; omega) h3 (fun i d' hd k' hk => by
      obtain ⟨u, u1, u2, u3⟩ := h4 (i + 1) d' (by rw [List.getElem?_cons_succ]; exact hd) k' hk
      exact ⟨u, u1, by rw [show off + 1 + i = off + (i + 1) by omega]; exact u2, u3⟩)
    refine ⟨v :: vs, by rw [List.length_cons, List.length_cons, w1], fun i u hu => ?_, ?_, w4⟩
    · cases i with
      | zero =>
        rw [List.getElem?_cons_zero] at hu
        cases hu
        exact ⟨v1, v2⟩
      | succ i =>
        rw [List.getElem?_cons_succ] at hu
        have := w2 i u hu
        rw [show off + 1 + i = off + (i + 1) by omega] at this
        exact this
    · rw [List.foldl_cons]
      exact w3
/-- x's loop over several -/
theorem x_sev {FT : Nat → Option Int32} {a l e N : Nat} {ws : List Int32} {all : Int32} (hs : sh a = xD22) (hl : gR σ a 1 = some l) (hL : LstC σ sh l e N) (hg : gI σ a 0 = all) (h01 : all = 0 ∨ all = 1) (hw : ws.length = N) (hv : ∀ i v, ws[i]? = some v → ∃ b, gR σ e i = some b ∧ FT b = some v ∧ (sh b = xD20 ∨ sh b = xD21 ∨ sh b = xD22)) : fX25_is sh FT q a σ = some (if ∀ v, v ∈ ws → v = all then all else if all = 0 then 1 else 0) := by
  have hN := hL.2.2.2.2
  have hT : ∀ b, (sh b = xD20 ∨ sh b = xD21 ∨ sh b = xD22) → (sh b).1 = 0 ∧ (sh b).2.2.1 = 0 ∧ (sh b).2.1 ∈ [20, 21, 22] := fun b h => by
    rcases h with h | h | h <;> rw [h] <;> exact ⟨rfl, rfl, by decide⟩
  obtain ⟨ex, h1, h2⟩ := Rn.inv (f := fun v : Int32 => bX25_is_2 sh FT q a v σ) (I := fun k v => ∃ m, m + k = N ∧ v = I m ∧ ∀ i v, i < m → ws[i]? = some v → v = all) (P := fun ex => (ex = .inl () ∧ ¬ ∀ v, v ∈ ws → v = all) ∨ (ex = .inr () ∧ ∀ v, v ∈ ws → v = all)) (fun k v hI => by
    obtain ⟨m, m1, rfl, m2⟩ := hI
    have eb : ∀ (r : Option ((Unit ⊕ Unit) ⊕ Int32)), (if I N ≤ I m then some (.inl (.inr ())) else ckS (sh a) xD22 (ckN (gR σ a 1) (fun v6 => ckS (sh v6) xD24 (bn1 (fJ2_get sh v6 (I m) σ) (fun r7 => ckT (sh r7) [20, 21, 22] (bn1 (FT r7) (fun r9 => ckS (sh a) xD22 (if r9 = (gI σ a 0) then letB (I m + 1) (fun x12 => some (.inr x12)) else some (.inl (.inl ())))))))))) = r → bX25_is_2 sh FT q a (I m) σ = r := fun r h => by
      rw [← h]
      unfold bX25_is_2
      rw [ckS_t hs, hl, ckN_s, ckS_t hL.1, hL.size, bn1_s]
    by_cases hk : N ≤ m
    · refine Or.inl ⟨.inr (), eb _ (if_pos ((I_le (by omega) (by omega)).mpr hk)), Or.inr ⟨rfl, fun v hv => ?_⟩⟩
      obtain ⟨i, hi⟩ := List.getElem?_of_mem hv
      have := (List.getElem?_eq_some_iff.mp hi).1
      exact m2 i v (by omega) hi
    · have hml : m < ws.length := by omega
      obtain ⟨b, b1, b2, b3⟩ := hv m ws[m] (List.getElem?_eq_getElem hml)
      have e2 : bX25_is_2 sh FT q a (I m) σ = if ws[m] = all then some (.inr (I (m + 1))) else some (.inl (.inl ())) := by
        refine eb _ ?_
        rw [if_neg (fun z => hk ((I_le (by omega) (by omega)).mp z)), ckS_t hs, hl, ckN_s, ckS_t hL.1, hL.get (by omega) b1, bn1_s, ckT_t (hT b b3), b2, bn1_s, ckS_t hs, hg, letB_t, show I m + 1 = I (m + 1) from I_add m 1]
      by_cases hq : ws[m] = all
      · refine Or.inr ⟨k - 1, I (m + 1), by omega, by rw [e2, if_pos hq], m + 1, by omega, rfl, fun i v hi hiv => ?_⟩
        rcases (show i < m ∨ i = m by omega) with z | z
        · exact m2 i v z hiv
        · subst z
          rw [List.getElem?_eq_getElem hml] at hiv
          cases hiv
          exact hq
      · exact Or.inl ⟨.inl (), by rw [e2, if_neg hq], Or.inl ⟨rfl, fun z => hq (z _ (List.getElem_mem hml))⟩⟩) N (I 0) ⟨0, by omega, rfl, fun i v hi => absurd hi (by omega)⟩
  unfold fX25_is fX25_is_2
  rw [show (0 : Int32) = I 0 from rfl, h1.fu (by rw [FU_v]; omega), bn1_s]
  rcases h2 with ⟨rfl, h2⟩ | ⟨rfl, h2⟩
  · rw [if_neg h2]
    show fX25_is_35 sh FT q a σ = _
    unfold fX25_is_35
    rw [ckS_t hs, hg]
    by_cases z : all = 0
    · rw [if_pos z]; exact (congrArg some (if_pos (show all = I 0 from z))).symm
    · rw [if_neg z]; exact (congrArg some (if_neg (show ¬ all = I 0 from z))).symm
  · rw [if_pos h2]
    show ckS (sh a) xD22 (ckZ (gI σ a 0) (some (gI σ a 0))) = _
    rw [ckS_t hs, hg, ckZ_t h01]
theorem nn_ev (ht : t ≤ 7060) {k : Nat} {d : List (Int32 × Int32)} {v : Int32} (v1 : v = 0 ∨ v = 1) (e2 : MEv t k σm d v) (e3 : 1 ≤ d.length) : ∀ m, cAt (gA σm 2) t k (d ++ nn m) → MEv t k σm (d ++ nn m) v ∧ 1 ≤ (d ++ nn m).length := by
  intro m
  induction m with
  | zero => intro _; show MEv t k σm (d ++ []) v ∧ _; rw [show d ++ nn 0 = d from List.append_nil d]; rw [List.append_nil]; exact ⟨e2, e3⟩
  | succ m ih =>
    intro hc
    have e : d ++ nn (m + 1) = (d ++ nn m ++ [((27 : Int32), (0 : Int32))]) ++ [(27, 0)] := by show d ++ (nn m ++ [(27, 0), (27, 0)]) = _; simp only [List.append_assoc, List.singleton_append]
    rw [e] at hc ⊢
    have e1 := (ih hc.app.1.app.1).1
    have e2' := e1.un (q := (27, 0)) (v' := 1 - v) (fun n last g g1 g2 g3 g4 => by rw [← g1]; exact r_not g3 g4 ht g2 hc.app.1.app.2)
    have e2'' := e2'.un (q := (27, 0)) (v' := 1 - (1 - v)) (fun n last g g1 g2 g3 g4 => by rw [← g1]; exact r_not g3 g4 ht g2 hc.app.2)
    have ev : 1 - (1 - v) = v := by rcases v1 with rfl | rfl <;> decide
    rw [ev] at e2''
    exact ⟨e2'', by rw [List.length_append, List.length_singleton]; omega⟩
theorem test_both (hE : EvR q σ σm) (ht : t ≤ 7060) : ∀ (n fuel a k : Nat) (c : List (Int32 × Int32)), TestC F σ sh n a c → n ≤ fuel → cAt (gA σm 2) t k c → ∃ v, (v = 0 ∨ v = 1) ∧ fTest sh q σ fuel a = some v ∧ MEv t k σm c v ∧ 1 ≤ c.length := by
  intro n
  induction n with
  | zero => intro fuel a k c h; exact h.elim
  | succ n ih =>
    intro fuel a k c h hf hc
    obtain ⟨fu, rfl⟩ := Nat.exists_eq_add_of_le' (show 1 ≤ fuel by omega)
    obtain ⟨m, d, rfl, -, h⟩ := h
    suffices key : ∃ v, (v = 0 ∨ v = 1) ∧ fTest sh q σ (fu + 1) a = some v ∧ MEv t k σm d v ∧ 1 ≤ d.length by
      obtain ⟨v, v1, e1, e2, e3⟩ := key
      obtain ⟨f2, f3⟩ := nn_ev ht v1 e2 e3 m hc
      exact ⟨v, v1, e1, f2, f3⟩
    replace hc := hc.app.1
    generalize d = c at hc h ⊢
    · unfold fTest
      rcases h with ⟨hs, b1, b2, d1, d2, hb1, hb2, hd1, hd2, h⟩ | ⟨hs, b, d, hb, hd, rfl⟩ | ⟨hs, l, e, ds, hl, hFl, hFe, hL, h1, hds, h⟩
      · have hc12 : cAt (gA σm 2) t k d1 ∧ cAt (gA σm 2) t (k + d1.length) d2 ∧ 1 ≤ c.length := by
          rcases h with ⟨-, rfl⟩ | ⟨-, rfl⟩ | ⟨-, rfl⟩
          · exact ⟨hc.app.1.app.1, hc.app.1.app.2, by rw [List.length_append, List.length_singleton]; omega⟩
          · exact ⟨hc.app.1.app.1, hc.app.1.app.2, by rw [List.length_append, List.length_singleton]; omega⟩
          · exact ⟨hc.app.1.app.1, hc.app.1.app.2, by rw [List.length_append, List.length_singleton]; omega⟩
        obtain ⟨v, e1, e2, e3⟩ := sum_both hE ht 125 130 b1 k d1 hd1 (by omega) hc12.1
        obtain ⟨w, f1, f2, f3⟩ := sum_both hE ht 125 130 b2 (k + d1.length) d2 hd2 (by omega) hc12.2.1
        have key : ∀ op r, c = d1 ++ d2 ++ [(op, 0)] → 4 < op → ¬ op = 27 → op < 32 → fX6_joined op v w = some r → MEv t k σm c r := by
          intro op r hcc g1 g2 g3 g4
          subst hcc
          have hcc := hc.app.2
          rw [List.length_append, ← Nat.add_assoc] at hcc
          exact e2.bin f2 (fun n last g z1 z2 z3 z4 z5 => r_bin z4 z5 ht z3 g1 g2 g3 (by rw [z1, z2]; exact g4) hcc) e3
        rw [if_pos hs]
        unfold fX23_is
        rw [ckS_t hs, hb1, ckN_s, e1, bn1_s, ckS_t hs, hb2, ckN_s, f1, bn1_s, ckS_t hs, ckS_t hs]
        rcases h with ⟨hg, hcc⟩ | ⟨hg, hcc⟩ | ⟨hg, hcc⟩
        · rw [hg, if_pos rfl]
          by_cases z : w ≤ v
          · rw [if_pos z]; exact ⟨0, Or.inl rfl, rfl, key 24 0 hcc (by decide) (by decide) (by decide) (by show (if w ≤ v then some (0 : Int32) else some 1) = _; rw [if_pos z]), hc12.2.2⟩
          · rw [if_neg z]; exact ⟨1, Or.inr rfl, rfl, key 24 1 hcc (by decide) (by decide) (by decide) (by show (if w ≤ v then some (0 : Int32) else some 1) = _; rw [if_neg z]), hc12.2.2⟩
        · rw [hg, if_neg (by decide), if_pos rfl]
          by_cases z : v ≤ w
          · rw [if_pos z]; exact ⟨0, Or.inl rfl, rfl, key 25 0 hcc (by decide) (by decide) (by decide) (by show (if v ≤ w then some (0 : Int32) else some 1) = _; rw [if_pos z]), hc12.2.2⟩
          · rw [if_neg z]; exact ⟨1, Or.inr rfl, rfl, key 25 1 hcc (by decide) (by decide) (by decide) (by show (if v ≤ w then some (0 : Int32) else some 1) = _; rw [if_neg z]), hc12.2.2⟩
        · rw [hg, if_neg (by decide), if_neg (by decide)]
          by_cases z : v = w
          · rw [if_pos z]; exact ⟨1, Or.inr rfl, rfl, key 26 1 hcc (by decide) (by decide) (by decide) (by show (if v = w then some (1 : Int32) else some 0) = _; rw [if_pos z]), hc12.2.2⟩
          · rw [if_neg z]; exact ⟨0, Or.inl rfl, rfl, key 26 0 hcc (by decide) (by decide) (by decide) (by show (if v = w then some (1 : Int32) else some 0) = _; rw [if_neg z]), hc12.2.2⟩
      · obtain ⟨v, v1, e1, e2, e3⟩ := ih fu b k d hd (by omega) hc.app.1
        refine ⟨1 - v, by rcases v1 with rfl | rfl <;> decide, ?_, e2.un (fun n last g g1 g2 g3 g4 => by rw [← g1]; exact r_not g3 g4 ht g2 hc.app.2), by rw [List.length_append, List.length_singleton]; omega⟩
        rw [if_neg (by rw [hs]; decide), if_pos hs]
        unfold fX24_is
        rw [ckS_t hs, hb, ckN_s, e1, bn1_s]
        rcases v1 with rfl | rfl
        · rw [if_pos rfl]; rfl
        · rw [if_neg (by decide)]; rfl
      · rw [if_neg (by rw [hs]; decide), if_neg (by rw [hs]; decide), if_pos hs]
        obtain ⟨d0, ds', rfl⟩ : ∃ d0 ds', ds = d0 :: ds' := by
          cases ds with
          | nil => simp at h1
          | cons d0 ds' => exact ⟨d0, ds', rfl⟩
        obtain ⟨b0, hb0, hT0⟩ := hds 0 d0 rfl
        have pre : ∀ (op : Int32) (ds : List (List (Int32 × Int32))) (acc : List (Int32 × Int32)), cAt (gA σm 2) t k (ds.foldl (fun acc x => acc ++ x ++ [(op, 0)]) acc) → cAt (gA σm 2) t k acc := by
          intro op ds
          induction ds with
          | nil => intro acc h; exact h
          | cons d ds ih2 => intro acc h; rw [List.foldl_cons] at h; exact (ih2 _ h).app.1.app.1
        have go : ∀ (op : Int32) (J : Int32 → Int32 → Int32), c = sevC op (d0 :: ds') → (4 < op ∧ ¬ op = 27 ∧ op < 32) → (∀ a b, fX6_joined op a b = some (J a b)) → ∃ v0 vs, (v0 = 0 ∨ v0 = 1) ∧ (∀ v, v ∈ vs → v = 0 ∨ v = 1) ∧ vs.length = ds'.length ∧ MEv t k σm c (vs.foldl J v0) ∧ 1 ≤ c.length ∧ ∀ i v, (v0 :: vs)[i]? = some v → ∃ b, gR σ e i = some b ∧ fTest sh q σ fu b = some v ∧ (sh b = xD20 ∨ sh b = xD21 ∨ sh b = xD22) := by
          intro op J hcc hop hJ
          subst hcc
          have hc' : cAt (gA σm 2) t k (ds'.foldl (fun acc x => acc ++ x ++ [(op, 0)]) d0) := hc
          obtain ⟨v0, w0, e1, e2, e3⟩ := ih fu b0 k d0 hT0 (by omega) (pre op ds' d0 hc')
          obtain ⟨vs, u1, u2, u3, u4⟩ := sev_M ht hop hJ (P := fun i v => ∃ b, gR σ e i = some b ∧ fTest sh q σ fu b = some v ∧ (sh b = xD20 ∨ sh b = xD21 ∨ sh b = xD22)) ds' 1 d0 v0 e2 e3 hc' (fun i d hd k' hk' => by
            obtain ⟨b, g1, g2⟩ := hds (i + 1) d (by rw [List.getElem?_cons_succ]; exact hd)
            obtain ⟨v, z1, z2, z3, z4⟩ := ih fu b k' d g2 (by omega) hk'
            exact ⟨v, z1, ⟨b, by rw [Nat.add_comm]; exact g1, z2, g2.sh⟩, z3⟩)
          refine ⟨v0, vs, w0, fun v hv => ?_, u1, u3, u4, fun i v hv => ?_⟩
          · obtain ⟨i, hi⟩ := List.getElem?_of_mem hv
            exact (u2 i v hi).1
          · cases i with
            | zero =>
              rw [List.getElem?_cons_zero] at hv
              cases hv
              exact ⟨b0, hb0, e1, hT0.sh⟩
            | succ i =>
              rw [List.getElem?_cons_succ] at hv
              have := (u2 i v hv).2
              rw [Nat.add_comm] at this
              exact this
        rcases h with ⟨hg, hcc⟩ | ⟨hg, hcc⟩
        · obtain ⟨v0, vs, w1, w2, w3, w4, w5, w6⟩ := go 28 (fun x y => x &&& y) hcc ⟨by decide, by decide, by decide⟩ (fun a b => rfl)
          have hx := x_sev (FT := fTest sh q σ fu) (q := q) (ws := v0 :: vs) (all := 1) hs hl hL hg (Or.inr rfl) (by rw [List.length_cons, List.length_cons, w3]) w6
          rw [and_fold vs v0 w1 w2] at w4
          refine ⟨_, ?_, ?_, w4, w5⟩
          · by_cases z : v0 = 1 ∧ ∀ v, v ∈ vs → v = 1
            · rw [if_pos z]; exact Or.inr rfl
            · rw [if_neg z]; exact Or.inl rfl
          · rw [hx, if_neg (show ¬ (1 : Int32) = 0 by decide)]
            exact congrArg some (if_cg (by simp only [List.mem_cons, forall_eq_or_imp]))
        · obtain ⟨v0, vs, w1, w2, w3, w4, w5, w6⟩ := go 29 (fun x y => x ||| y) hcc ⟨by decide, by decide, by decide⟩ (fun a b => rfl)
          have hx := x_sev (FT := fTest sh q σ fu) (q := q) (ws := v0 :: vs) (all := 0) hs hl hL hg (Or.inl rfl) (by rw [List.length_cons, List.length_cons, w3]) w6
          rw [or_fold vs v0 w1 w2] at w4
          refine ⟨_, ?_, ?_, w4, w5⟩
          · by_cases z : v0 = 0 ∧ ∀ v, v ∈ vs → v = 0
            · rw [if_pos z]; exact Or.inl rfl
            · rw [if_neg z]; exact Or.inr rfl
          · rw [hx, if_pos (show (0 : Int32) = 0 from rfl)]
            exact congrArg some (if_cg (by simp only [List.mem_cons, forall_eq_or_imp]))
end TB
theorem m_reckon {t k : Nat} {σm : St} {c : List (Int32 × Int32)} {v : Int32} (h : MEv t k σm c v) (hl : k + c.length ≤ 400) : ∃ g', fX6_reckon (I t) (I k) (I (k + c.length)) σm = some (v, s13 σm g') := by
  obtain ⟨g', e1, -, e3⟩ := h 0 (k + c.length) (gA σm 13) (by omega) (Nat.le_refl _) hl
  refine ⟨g', ?_⟩
  have hs : Rn (rB t (k + c.length)) 1 (I (0 + 1), I (k + c.length), s13 σm g') (I 1, s13 σm g') := by
    refine Rn.stop ?_
    show bX6_reckon_6 (I t) (I (k + c.length)) (I 1) (I (k + c.length)) (s13 σm g') = _
    unfold bX6_reckon_6
    rw [if_pos ((I_le (by omega) (by omega)).mpr (Nat.le_refl _))]
  have := (e3 1 _ hs).fu (by rw [FU_v]; omega)
  rw [s13_self] at this
  unfold fX6_reckon fX6_reckon_6
  have this : iter (fun v : Int32 × Int32 × St => bX6_reckon_6 (I t) (I (k + c.length)) v.1 v.2.1 v.2.2) FU (0, I k, σm) = some (I 1, s13 σm g') := this
  rw [this, bn1_s]
  show fX6_reckon_257 (I 1) (s13 σm g') = _
  unfold fX6_reckon_257
  rw [if_neg (by decide)]
  simp (disch := decide) only [ckB_l]
  show some (g' 0, s13 σm g') = _
  rw [e1]
