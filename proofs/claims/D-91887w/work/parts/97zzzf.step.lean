/-! the plain law: a recipe, as such -/
set_option maxRecDepth 100000
/-- a step's sort; 6: none -/
def srt (T : Nat → Int32) (s : SP) : Nat := if iS T 0 s = true then 0 else if iS T 13 s = true then 2 else if iS T 14 s = true then 3 else if iS T 15 s = true then 4 else if iS T 16 s = true then 5 else if iS T 17 s = true then 1 else 6
/-- where, or how many cells -/
def p0P (T : Nat → Int32) (n r : Nat) (s : SP) : RP := if r = 5 then (if isN T n s.1 s.2.1 15 = true then .inr ([], nxS T n s) else .inl s.1) else pSum T n 10 s
/-- to what -/
def p1P (T : Nat → Int32) (n r : Nat) (s : SP) : RP := if r = 1 then (if iS T 18 s = true then pSum T n 10 (nxS T n s) else .inl s.1) else .inr ([], s)
/-- when -/
def p2P (T : Nat → Int32) (n : Nat) (s : SP) : RP := if iS T 19 s = true then pTest T n 10 (nxS T n s) else .inr ([], s)
/-- a step: sort, number, three codes -/
abbrev SDt : Type := Nat × Nat × Cd × Cd × Cd
def nmS (T : Nat → Int32) (s : SP) (r : Nat) : Nat := if r = 5 then nV T s.1 (s.2.1 - s.1) else 0
def pStep (T : Nat → Int32) (n k : Nat) (s : SP) : Nat ⊕ (SDt × SP) :=
  if k = 16 ∨ srt T s = 6 then .inl s.1 else match p0P T n (srt T s) (nxS T n s) with
  | .inl q => .inl q
  | .inr (c0, s1) => match p1P T n (srt T s) s1 with
    | .inl q => .inl q
    | .inr (c1, s2) => match p2P T n s2 with
      | .inl q => .inl q
      | .inr (c2, s3) => .inr ((srt T s, nmS T (nxS T n s) (srt T s), c0, c1, c2), s3)
def pMore (T : Nat → Int32) (n : Nat) : Nat → List SDt → SP → Nat ⊕ (List SDt × SP)
  | 0, _, s => .inl s.1
  | m + 1, L, s => if iS T 26 s = true then (match pStep T n L.length (nxS T n s) with
    | .inl q => .inl q
    | .inr (d, s') => pMore T n m (L ++ [d]) s') else if s.1 < n then .inl s.1 else .inr (L, s)
def pRead (T : Nat → Int32) (n : Nat) : Nat ⊕ (List SDt × SP) := match pStep T n 0 (nxS T n (0, 0, 0, 0)) with
  | .inl q => .inl q
  | .inr (d, s') => pMore T n 401 [d] s'
def cd1 (d : SDt) : Cd := d.2.2.1 ++ d.2.2.2.1 ++ d.2.2.2.2
def cdsL : List SDt → Cd
  | [] => []
  | d :: L => cd1 d ++ cdsL L
theorem cdsL_a : ∀ L L' : List SDt, cdsL (L ++ L') = cdsL L ++ cdsL L' := by
  intro L L'
  induction L with
  | nil => rfl
  | cons d L ih =>
    show cd1 d ++ cdsL (L ++ L') = cd1 d ++ cdsL L ++ cdsL L'
    rw [ih, List.append_assoc]
theorem cdsL_1 (L : List SDt) (d : SDt) : cdsL (L ++ [d]) = cdsL L ++ cd1 d := by
  rw [cdsL_a]
  show cdsL L ++ (cd1 d ++ []) = _
  rw [List.append_nil]
section PW
variable {T : Nat → Int32} {n : Nat} {s s' : SP} {c : Cd} {r : Nat}
def pgw (T : Nat → Int32) (n : Nat) (s : SP) (c : Cd) (s' : SP) : Prop := okS T n s' ∧ s.1 + c.length ≤ s'.1 ∧ s.2.2.1 ≤ s'.2.2.1 ∧ s'.2.2.1 ≤ 60 ∧ s'.2.2.2 = s.2.2.2
theorem pg.w (h : pg T n s c s') : pgw T n s c s' := ⟨h.1, h.2.1, Nat.le_of_lt h.2.2.1, h.2.2.2.1, h.2.2.2.2.1⟩
theorem pgw.nx (hs : okS T n s) (h : pgw T n (nxS T n s) c s') : pgw T n s c s' := by
  obtain ⟨h1, h2, h3, h4, h5⟩ := h
  have := (nxS_ok hs s.2.2).2
  have := hs.1
  have h2' : nxF T n s.2.1 + c.length ≤ s'.1 := h2
  exact ⟨h1, by omega, h3, h4, h5⟩
theorem nxS_l (hs : okS T n s) : s.1 ≤ (nxS T n s).1 := by
  have := (nxS_ok hs s.2.2).2
  have := hs.1
  show s.1 ≤ nxF T n s.2.1
  omega
theorem p0P_g (hs : okS T n s) (hl : s.2.2.1 ≤ 60) (h : p0P T n r s = .inr (c, s')) : pgw T n s c s' ∧ (r = 5 → c = []) := by
  unfold p0P at h
  by_cases z : r = 5
  · rw [if_pos z] at h
    by_cases y : isN T n s.1 s.2.1 15 = true
    · rw [if_pos y] at h
      cases h
      exact ⟨⟨(nxS_ok hs s.2.2).1, nxS_l hs, Nat.le_refl _, hl, rfl⟩, fun _ => rfl⟩
    · rw [if_neg y] at h; cases h
  · rw [if_neg z] at h
    exact ⟨(pSum_g 10 _ _ _ hs hl h).w, fun e => absurd e z⟩
theorem p1P_g (hs : okS T n s) (hl : s.2.2.1 ≤ 60) (h : p1P T n r s = .inr (c, s')) : pgw T n s c s' ∧ (r ≠ 1 → c = []) := by
  unfold p1P at h
  by_cases z : r = 1
  · rw [if_pos z] at h
    by_cases y : iS T 18 s = true
    · rw [if_pos y] at h
      exact ⟨pgw.nx hs (pSum_g 10 (nxS T n s) _ _ (nxS_ok hs s.2.2).1 hl h).w, fun e => absurd z e⟩
    · rw [if_neg y] at h; cases h
  · rw [if_neg z] at h
    cases h
    exact ⟨⟨hs, Nat.le_refl _, Nat.le_refl _, hl, rfl⟩, fun _ => rfl⟩
theorem p2P_g (hs : okS T n s) (hl : s.2.2.1 ≤ 60) (h : p2P T n s = .inr (c, s')) : pgw T n s c s' := by
  unfold p2P at h
  by_cases y : iS T 19 s = true
  · rw [if_pos y] at h
    exact pgw.nx hs (pTest_g 10 (nxS T n s) _ _ (nxS_ok hs s.2.2).1 hl h).w
  · rw [if_neg y] at h
    cases h
    exact ⟨hs, Nat.le_refl _, Nat.le_refl _, hl, rfl⟩
theorem srt6 : srt T s ≤ 6 := by unfold srt; repeat (first | omega | split)
/-- the word of a sort -/
def srW : Nat → Nat
  | 0 => 0
  | 1 => 17
  | 2 => 13
  | 3 => 14
  | 4 => 15
  | _ => 16
theorem srt_w (h : srt T s ≠ 6) : iS T (srW (srt T s)) s = true ∧ s.1 + 2 ≤ s.2.1 := by
  have key : ∀ i, i < 27 → 2 ≤ sL i → iS T i s = true → iS T i s = true ∧ s.1 + 2 ≤ s.2.1 := fun i hi hl h => ⟨h, by have := (isS_t.mp h).1; omega⟩
  unfold srt at h ⊢
  by_cases z0 : iS T 0 s = true
  · rw [if_pos z0]; exact key 0 (by decide) (by decide) z0
  rw [if_neg z0] at h ⊢
  by_cases z1 : iS T 13 s = true
  · rw [if_pos z1]; exact key 13 (by decide) (by decide) z1
  rw [if_neg z1] at h ⊢
  by_cases z2 : iS T 14 s = true
  · rw [if_pos z2]; exact key 14 (by decide) (by decide) z2
  rw [if_neg z2] at h ⊢
  by_cases z3 : iS T 15 s = true
  · rw [if_pos z3]; exact key 15 (by decide) (by decide) z3
  rw [if_neg z3] at h ⊢
  by_cases z4 : iS T 16 s = true
  · rw [if_pos z4]; exact key 16 (by decide) (by decide) z4
  rw [if_neg z4] at h ⊢
  by_cases z5 : iS T 17 s = true
  · rw [if_pos z5]; exact key 17 (by decide) (by decide) z5
  · rw [if_neg z5] at h; exact absurd rfl h
end PW
