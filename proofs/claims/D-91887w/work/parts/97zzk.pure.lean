/-! the plain law: the parser, as such -/
set_option maxRecDepth 100000
abbrev Cd : Type := List (Int32 × Int32)
/-- from, to, leaves, depth -/
abbrev SP : Type := Nat × Nat × Nat × Nat
abbrev RP : Type := Nat ⊕ (Cd × SP)
def nxS (T : Nat → Int32) (n : Nat) (s : SP) : SP := (nxF T n s.2.1, nxT T n s.2.1, s.2.2)
def iS (T : Nat → Int32) (i : Nat) (s : SP) : Bool := isS T i s.1 s.2.1
def bnP (r : RP) (f : Cd → SP → RP) : RP := match r with
  | .inl q => .inl q
  | .inr (c, s) => f c s
/-- what stands between two brackets -/
def inP (T : Nat → Int32) (n o cl : Nat) (fS : SP → RP) (s : SP) : RP :=
  if iS T o s = true ∧ s.2.2.2 ≠ 8 then bnP (fS (nxF T n s.2.1, nxT T n s.2.1, s.2.2.1, s.2.2.2 + 1)) (fun c s' => if iS T cl s' = true then .inr (c, (nxF T n s'.2.1, nxT T n s'.2.1, s'.2.2.1, s'.2.2.2 - 1)) else .inl s'.1) else .inl s.1
/-- the word that is told: 1 .. 4, or none -/
def tdP (T : Nat → Int32) (s : SP) : Nat := if iS T 2 s = true then 1 else if iS T 3 s = true then 2 else if iS T 4 s = true then 3 else if iS T 5 s = true then 4 else 0
def isD (T : Nat → Int32) (n : Nat) (s : SP) : Bool := decide (s.1 < n) && cDg (T s.1)
def lvS (s : SP) : SP := (s.1, s.2.1, s.2.2.1 + 1, s.2.2.2)
def pPart (T : Nat → Int32) (n : Nat) (fS : SP → RP) (s : SP) : RP :=
  if iS T 1 s = false ∧ iS T 6 s = false ∧ tdP T s = 0 ∧ isD T n s = false ∧ iS T 7 s = false then .inl s.1
  else if s.2.2.1 = 60 then .inl s.1
  else if isD T n s = true then (if isN T n s.1 s.2.1 99 = true then .inr ([(0, I (nV T s.1 (s.2.1 - s.1)))], nxS T n (lvS s)) else .inl s.1)
  else if iS T 7 s = true then inP T n 7 8 fS (lvS s)
  else if tdP T s ≠ 0 then .inr ([(I (tdP T s), 0)], nxS T n (lvS s))
  else bnP (inP T n 9 10 fS (nxS T n (lvS s))) (fun c s' => .inr (c ++ [(if iS T 1 s = true then 32 else 33, 0)], s'))
/-- one, and more of them behind a sign -/
def pLp (T : Nat → Int32) (n : Nat) (op : SP → Option Int32) (pP : SP → RP) : Nat → Cd → SP → RP
  | 0, _, s => .inl s.1
  | m + 1, c, s => match op s with
    | none => .inr (c, s)
    | some o => bnP (pP (nxS T n s)) (fun d s' => pLp T n op pP m (c ++ d ++ [(o, 0)]) s')
def oSum (T : Nat → Int32) (s : SP) : Option Int32 := if iS T 11 s = true then some 20 else if iS T 12 s = true then some 21 else none
def oAnd (T : Nat → Int32) (s : SP) : Option Int32 := if iS T 24 s = true then some 28 else none
def oOr (T : Nat → Int32) (s : SP) : Option Int32 := if iS T 25 s = true then some 29 else none
def oCmp (T : Nat → Int32) (s : SP) : Option Int32 := if iS T 21 s = true then some 24 else if iS T 22 s = true then some 25 else if iS T 23 s = true then some 26 else none
def pSum (T : Nat → Int32) (n : Nat) : Nat → SP → RP
  | 0, s => .inl s.1
  | f + 1, s => bnP (pPart T n (pSum T n f) s) (fun c s' => pLp T n (oSum T) (pPart T n (pSum T n f)) 61 c s')
def pPos (T : Nat → Int32) (n : Nat) (fT : SP → RP) (s : SP) : RP :=
  if iS T 9 s = true then inP T n 9 10 fT s
  else bnP (pSum T n 10 s) (fun c1 s1 => match oCmp T s1 with
    | none => .inl s1.1
    | some o => bnP (pSum T n 10 (nxS T n s1)) (fun c2 s2 => .inr (c1 ++ c2 ++ [(o, 0)], s2)))
def pNot (T : Nat → Int32) (n : Nat) : Nat → Nat → SP → Nat × SP
  | 0, k, s => (k, s)
  | m + 1, k, s => if iS T 20 s = true then pNot T n m (k + 1) (nxS T n s) else (k, s)
def pPlain (T : Nat → Int32) (n : Nat) (fT : SP → RP) (s : SP) : RP := bnP (pPos T n fT (pNot T n 401 0 s).2) (fun c s' => .inr (c ++ List.replicate (pNot T n 401 0 s).1 (27, 0), s'))
def pBoth (T : Nat → Int32) (n : Nat) (fT : SP → RP) (s : SP) : RP := bnP (pPlain T n fT s) (fun c s' => pLp T n (oAnd T) (pPlain T n fT) 61 c s')
def pTest (T : Nat → Int32) (n : Nat) : Nat → SP → RP
  | 0, s => .inl s.1
  | f + 1, s => bnP (pBoth T n (pTest T n f) s) (fun c s' => pLp T n (oOr T) (pBoth T n (pTest T n f)) 61 c s')
/-! what they do to the place -/
def okS (T : Nat → Int32) (n : Nat) (s : SP) : Prop := s.1 ≤ s.2.1 ∧ s.2.1 = tkE T n s.1 ∧ s.2.1 ≤ n
def pg (T : Nat → Int32) (n : Nat) (s : SP) (c : Cd) (s' : SP) : Prop := okS T n s' ∧ s.1 + c.length ≤ s'.1 ∧ s.2.2.1 < s'.2.2.1 ∧ s'.2.2.1 ≤ 60 ∧ s'.2.2.2 = s.2.2.2 ∧ 1 ≤ c.length
def pgP (T : Nat → Int32) (n : Nat) (pP : SP → RP) : Prop := ∀ s c s', okS T n s → s.2.2.1 ≤ 60 → pP s = .inr (c, s') → pg T n s c s'
theorem bnP_r {r : RP} {f : Cd → SP → RP} {c : Cd} {s : SP} (h : bnP r f = .inr (c, s)) : ∃ d s', r = .inr (d, s') ∧ f d s' = .inr (c, s) := by
  rcases r with q | ⟨d, s'⟩
  · exact absurd h (by intro e; cases e)
  · exact ⟨d, s', rfl, h⟩
section PG
variable {T : Nat → Int32} {n : Nat}
theorem nxS_ok {s : SP} (h : okS T n s) (x : Nat × Nat) : okS T n (nxF T n s.2.1, nxT T n s.2.1, x) ∧ s.2.1 ≤ nxF T n s.2.1 := by
  have b := nx_s T n s.2.1 h.2.2
  exact ⟨⟨b.2.1, rfl, b.2.2.1⟩, b.1⟩
theorem iS_lt {s : SP} {i : Nat} (hi : i < 27) (h : iS T i s = true) : s.1 < s.2.1 := by
  have := (isS_t.mp h).1
  have := (sL_sh i hi).2.2
  omega
theorem isD_lt {s : SP} (hs : okS T n s) (h : isD T n s = true) : s.1 < s.2.1 := by
  unfold isD at h
  rw [Bool.and_eq_true, decide_eq_true_iff] at h
  exact (tk_dg hs.2.1 h.1 h.2).1
theorem inP_g {o cl : Nat} (ho : o < 27) (hcl : cl < 27) {fS : SP → RP} (hf : pgP T n fS) {s : SP} {c : Cd} {s' : SP} (hs : okS T n s) (hl : s.2.2.1 ≤ 60) (h : inP T n o cl fS s = .inr (c, s')) : pg T n s c s' ∧ s.1 + c.length + 1 ≤ s'.1 := by
  unfold inP at h
  by_cases z : iS T o s = true ∧ s.2.2.2 ≠ 8
  · rw [if_pos z] at h
    obtain ⟨d, s1, e1, e2⟩ := bnP_r h
    obtain ⟨k1, k2⟩ := nxS_ok hs (s.2.2.1, s.2.2.2 + 1)
    obtain ⟨g1, g2, g3, g4, g5, g6⟩ := hf _ _ _ k1 hl e1
    by_cases y : iS T cl s1 = true
    · rw [if_pos y] at e2
      cases e2
      obtain ⟨k3, k4⟩ := nxS_ok g1 (s1.2.2.1, s1.2.2.2 - 1)
      have l1 := iS_lt ho z.1
      have l2 := iS_lt hcl y
      simp only at g2 g3 g5
      refine ⟨⟨k3, ?_, g3, g4, ?_, g6⟩, ?_⟩
      · show s.1 + c.length ≤ nxF T n s1.2.1; omega
      · show s1.2.2.2 - 1 = s.2.2.2; omega
      · show s.1 + c.length + 1 ≤ nxF T n s1.2.1; omega
    · rw [if_neg y] at e2; cases e2
  · rw [if_neg z] at h; cases h
theorem pPart_g {fS : SP → RP} (hf : pgP T n fS) : pgP T n (pPart T n fS) := by
  intro s c s' hs hl h
  have hs' : okS T n (lvS s) := hs
  have hnx := nxS_ok hs (s.2.2.1 + 1, s.2.2.2)
  unfold pPart at h
  by_cases z0 : iS T 1 s = false ∧ iS T 6 s = false ∧ tdP T s = 0 ∧ isD T n s = false ∧ iS T 7 s = false
  · rw [if_pos z0] at h; cases h
  rw [if_neg z0] at h
  by_cases z1 : s.2.2.1 = 60
  · rw [if_pos z1] at h; cases h
  rw [if_neg z1] at h
  by_cases z2 : isD T n s = true
  · rw [if_pos z2] at h
    have l := isD_lt hs z2
    by_cases z3 : isN T n s.1 s.2.1 99 = true
    · rw [if_pos z3] at h
      cases h
      refine ⟨hnx.1, ?_, Nat.lt_succ_self _, ?_, rfl, Nat.le_refl _⟩
      · show s.1 + 1 ≤ nxF T n s.2.1; omega
      · show s.2.2.1 + 1 ≤ 60; omega
    · rw [if_neg z3] at h; cases h
  rw [if_neg z2] at h
  by_cases z4 : iS T 7 s = true
  · rw [if_pos z4] at h
    obtain ⟨⟨g1, g2, g3, g4, g5, g6⟩, _⟩ := inP_g (by decide) (by decide) hf hs' (show s.2.2.1 + 1 ≤ 60 by omega) h
    exact ⟨g1, g2, Nat.lt_of_succ_lt g3, g4, g5, g6⟩
  rw [if_neg z4] at h
  by_cases z5 : tdP T s ≠ 0
  · rw [if_pos z5] at h
    have l : s.1 < s.2.1 := by
      unfold tdP at z5
      by_cases y2 : iS T 2 s = true
      · exact iS_lt (by decide) y2
      · rw [if_neg y2] at z5
        by_cases y3 : iS T 3 s = true
        · exact iS_lt (by decide) y3
        · rw [if_neg y3] at z5
          by_cases y4 : iS T 4 s = true
          · exact iS_lt (by decide) y4
          · rw [if_neg y4] at z5
            by_cases y5 : iS T 5 s = true
            · exact iS_lt (by decide) y5
            · rw [if_neg y5] at z5; exact absurd rfl z5
    cases h
    refine ⟨hnx.1, ?_, Nat.lt_succ_self _, ?_, rfl, Nat.le_refl _⟩
    · show s.1 + 1 ≤ nxF T n s.2.1; omega
    · show s.2.2.1 + 1 ≤ 60; omega
  rw [if_neg z5] at h
  obtain ⟨d, s1, e1, e2⟩ := bnP_r h
  cases e2
  obtain ⟨⟨g1, g2, g3, g4, g5, g6⟩, g7⟩ := inP_g (by decide) (by decide) hf hnx.1 (show s.2.2.1 + 1 ≤ 60 by omega) e1
  have g3' : s.2.2.1 + 1 < s'.2.2.1 := g3
  have g7' : nxF T n s.2.1 + d.length + 1 ≤ s'.1 := g7
  have := hs.1
  refine ⟨g1, ?_, by omega, g4, g5, ?_⟩
  · rw [List.length_append, List.length_singleton]; omega
  · rw [List.length_append, List.length_singleton]; omega
theorem pLp_g {op : SP → Option Int32} {pP : SP → RP} (hp : pgP T n pP) (hop : ∀ s o, op s = some o → s.1 < s.2.1) {s0 : SP} : ∀ m c s c' s', pg T n s0 c s → pLp T n op pP m c s = .inr (c', s') → pg T n s0 c' s' ∧ op s' = none := by
  intro m
  induction m with
  | zero => intro c s c' s' _ h; cases h
  | succ m ih =>
    intro c s c' s' g h
    unfold pLp at h
    cases e : op s with
    | none => rw [e] at h; cases h; exact ⟨g, e⟩
    | some o =>
      rw [e] at h
      obtain ⟨d, s1, e1, e2⟩ := bnP_r h
      obtain ⟨g1, g2, g3, g4, g5, g6⟩ := g
      obtain ⟨k1, k2⟩ := nxS_ok g1 s.2.2
      obtain ⟨y1, y2, y3, y4, y5, y6⟩ := hp _ _ _ k1 g4 e1
      have l := hop s o e
      refine ih _ _ _ _ ⟨y1, ?_, Nat.lt_trans g3 y3, y4, y5.trans g5, ?_⟩ e2
      · have y2' : nxF T n s.2.1 + d.length ≤ s1.1 := y2
        rw [List.length_append, List.length_append, List.length_singleton]; omega
      · rw [List.length_append, List.length_append, List.length_singleton]; omega
theorem oSum_l (s : SP) (o : Int32) (h : oSum T s = some o) : s.1 < s.2.1 := by
  unfold oSum at h
  by_cases y1 : iS T 11 s = true
  · exact iS_lt (by decide) y1
  · rw [if_neg y1] at h
    by_cases y2 : iS T 12 s = true
    · exact iS_lt (by decide) y2
    · rw [if_neg y2] at h; cases h
theorem oAnd_l (s : SP) (o : Int32) (h : oAnd T s = some o) : s.1 < s.2.1 := by
  unfold oAnd at h
  by_cases y1 : iS T 24 s = true
  · exact iS_lt (by decide) y1
  · rw [if_neg y1] at h; cases h
theorem oOr_l (s : SP) (o : Int32) (h : oOr T s = some o) : s.1 < s.2.1 := by
  unfold oOr at h
  by_cases y1 : iS T 25 s = true
  · exact iS_lt (by decide) y1
  · rw [if_neg y1] at h; cases h
theorem oCmp_l (s : SP) (o : Int32) (h : oCmp T s = some o) : s.1 < s.2.1 := by
  unfold oCmp at h
  by_cases y1 : iS T 21 s = true
  · exact iS_lt (by decide) y1
  · rw [if_neg y1] at h
    by_cases y2 : iS T 22 s = true
    · exact iS_lt (by decide) y2
    · rw [if_neg y2] at h
      by_cases y3 : iS T 23 s = true
      · exact iS_lt (by decide) y3
      · rw [if_neg y3] at h; cases h
theorem pSum_g : ∀ f, pgP T n (pSum T n f) := by
  intro f
  induction f with
  | zero => intro s c s' _ _ h; cases h
  | succ f ih =>
    intro s c s' hs hl h
    unfold pSum at h
    obtain ⟨d, s1, e1, e2⟩ := bnP_r h
    exact (pLp_g (pPart_g ih) oSum_l _ _ _ _ _ (pPart_g ih _ _ _ hs hl e1) e2).1
theorem pPos_g {fT : SP → RP} (hf : pgP T n fT) : pgP T n (pPos T n fT) := by
  intro s c s' hs hl h
  unfold pPos at h
  by_cases z : iS T 9 s = true
  · rw [if_pos z] at h
    exact (inP_g (by decide) (by decide) hf hs hl h).1
  · rw [if_neg z] at h
    obtain ⟨c1, s1, e1, e2⟩ := bnP_r h
    obtain ⟨g1, g2, g3, g4, g5, g6⟩ := pSum_g 10 _ _ _ hs hl e1
    cases e : oCmp T s1 with
    | none => rw [e] at e2; cases e2
    | some o =>
      rw [e] at e2
      obtain ⟨c2, s2, e3, e4⟩ := bnP_r e2
      cases e4
      obtain ⟨k1, k2⟩ := nxS_ok g1 s1.2.2
      obtain ⟨y1, y2, y3, y4, y5, y6⟩ := pSum_g 10 _ _ _ k1 g4 e3
      have l := oCmp_l s1 o e
      have y2' : nxF T n s1.2.1 + c2.length ≤ s'.1 := y2
      refine ⟨y1, ?_, Nat.lt_trans g3 y3, y4, y5.trans g5, ?_⟩
      · rw [List.length_append, List.length_append, List.length_singleton]; omega
      · rw [List.length_append, List.length_append, List.length_singleton]; omega
theorem pNot_g : ∀ m k (s : SP), okS T n s → okS T n (pNot T n m k s).2 ∧ s.1 + (pNot T n m k s).1 ≤ (pNot T n m k s).2.1 + k ∧ (pNot T n m k s).2.2.2 = s.2.2 ∧ k ≤ (pNot T n m k s).1 := by
  intro m
  induction m with
  | zero => intro k s h; exact ⟨h, Nat.le_refl _, rfl, Nat.le_refl _⟩
  | succ m ih =>
    intro k s h
    unfold pNot
    by_cases z : iS T 20 s = true
    · rw [if_pos z]
      obtain ⟨k1, k2⟩ := nxS_ok h s.2.2
      have l := iS_lt (by decide) z
      obtain ⟨a1, a2, a3, a4⟩ := ih (k + 1) (nxS T n s) k1
      have a2' : nxF T n s.2.1 + (pNot T n m (k + 1) (nxS T n s)).1 ≤ (pNot T n m (k + 1) (nxS T n s)).2.1 + (k + 1) := a2
      exact ⟨a1, by omega, a3, by omega⟩
    · rw [if_neg z]; exact ⟨h, Nat.le_refl _, rfl, Nat.le_refl _⟩
theorem pPlain_g {fT : SP → RP} (hf : pgP T n fT) : pgP T n (pPlain T n fT) := by
  intro s c s' hs hl h
  unfold pPlain at h
  obtain ⟨d, s1, e1, e2⟩ := bnP_r h
  cases e2
  obtain ⟨a1, a2, a3, a4⟩ := pNot_g (T := T) (n := n) 401 0 s hs
  obtain ⟨g1, g2, g3, g4, g5, g6⟩ := pPos_g hf _ _ _ a1 (by rw [a3]; exact hl) e1
  rw [a3] at g3 g5
  refine ⟨g1, ?_, g3, g4, g5, ?_⟩
  · rw [List.length_append, List.length_replicate]; omega
  · rw [List.length_append]; omega
theorem pBoth_g {fT : SP → RP} (hf : pgP T n fT) : pgP T n (pBoth T n fT) := by
  intro s c s' hs hl h
  unfold pBoth at h
  obtain ⟨d, s1, e1, e2⟩ := bnP_r h
  exact (pLp_g (pPlain_g hf) oAnd_l _ _ _ _ _ (pPlain_g hf _ _ _ hs hl e1) e2).1
theorem pTest_g : ∀ f, pgP T n (pTest T n f) := by
  intro f
  induction f with
  | zero => intro s c s' _ _ h; cases h
  | succ f ih =>
    intro s c s' hs hl h
    unfold pTest at h
    obtain ⟨d, s1, e1, e2⟩ := bnP_r h
    exact (pLp_g (pBoth_g ih) oOr_l _ _ _ _ _ (pBoth_g ih _ _ _ hs hl e1) e2).1
end PG
