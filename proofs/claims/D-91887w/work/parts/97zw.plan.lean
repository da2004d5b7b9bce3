/-! the plain law: the plan, in plain numbers -/
set_option maxRecDepth 100000
noncomputable def lpQ (Q : Nat → Prop) : Nat := @dite _ (∃ p, Q p ∧ ∀ i, i < p → ¬ Q i) (Classical.propDecidable _) (fun h => Classical.choose h) (fun _ => 0)
theorem lpQ_ok {Q : Nat → Prop} {p : Nat} (hp : Q p) : Q (lpQ Q) ∧ (∀ i, i < lpQ Q → ¬ Q i) ∧ lpQ Q ≤ p := by
  have h : ∃ p, Q p ∧ ∀ i, i < p → ¬ Q i := by
    induction p using Nat.strongRecOn with
    | ind p ih =>
      rcases Classical.em (∃ i, i < p ∧ Q i) with ⟨i, h1, h2⟩ | h
      · exact ih i h1 h2
      · exact ⟨p, hp, fun i h1 h2 => h ⟨i, h1, h2⟩⟩
  have e : lpQ Q = Classical.choose h := dif_pos h
  have hc := Classical.choose_spec h
  rw [← e] at hc
  refine ⟨hc.1, hc.2, ?_⟩
  rcases Nat.lt_or_ge p (lpQ Q) with q | q
  · exact absurd hp (hc.2 p q)
  · exact q
section WW
variable (n tg bl first target H : Nat)
def onC : Nat → Nat → Prop
  | 0, v => v = first
  | h + 1, w => tgo n tg bl first target H (H - (h + 1)) w ∧ ∃ v, onC h v ∧ w ∈ spr n tg bl v (lpQ (fun p => p < n ∧ ∃ v' w', onC h v' ∧ w' ∈ spr n tg bl v' p ∧ tgo n tg bl first target H (H - (h + 1)) w'))
noncomputable def cellC (h : Nat) : Nat := lpQ (fun p => p < n ∧ ∃ v' w', onC n tg bl first target H h v' ∧ w' ∈ spr n tg bl v' p ∧ tgo n tg bl first target H (H - (h + 1)) w')
noncomputable def rowC : Nat → Nat
  | 0 => first
  | h + 1 => lpQ (fun w => w ∈ spr n tg bl (rowC h) (cellC n tg bl first target H h) ∧ goal n tg bl first target H (cellC n tg bl first target H) (H - (h + 1)) w)
end WW
section WX
variable {n tg bl first target H : Nat}
theorem onC_e : ∀ h v, onw n tg bl first target H (cellC n tg bl first target H) h v ↔ onC n tg bl first target H h v
  | 0, v => Iff.rfl
  | h + 1, w => by
    have ih := onC_e h
    constructor
    · rintro ⟨h1, v, h2, h3⟩
      exact ⟨h1, v, (ih v).mp h2, h3⟩
    · rintro ⟨h1, v, h2, h3⟩
      exact ⟨h1, v, (ih v).mpr h2, h3⟩
/-- the row begun with leads to the target -/
theorem tgo_first (hl : lev n tg bl first H target) : ∀ h w, h ≤ H → lev n tg bl first h w → tgo n tg bl first target H (H - h) w → tgo n tg bl first target H H first
  | 0, w, _, h1, h2 => by
    have : w = first := h1
    subst this
    exact h2
  | h + 1, w, hh, h1, h2 => by
    obtain ⟨v, p, h3, h4, h5⟩ := h1
    refine tgo_first hl h v (by omega) h3 ?_
    rw [show H - h = (H - (h + 1)) + 1 by omega]
    refine ⟨?_, p, w, h4, h5, h2⟩
    rw [show H - (H - (h + 1) + 1) = h by omega]
    exact h3
theorem on_tgo (hl : lev n tg bl first H target) {h v : Nat} (hv : onC n tg bl first target H h v) : tgo n tg bl first target H (H - h) v := by
  cases h with
  | zero =>
    have : v = first := hv
    subst this
    refine tgo_first hl H target (Nat.le_refl _) hl ?_
    rw [Nat.sub_self]
    exact rfl
  | succ h => exact hv.1
theorem cell_ex (hl : lev n tg bl first H target) {h v : Nat} (hh : h < H) (hv : onC n tg bl first target H h v) : ∃ p, p < n ∧ ∃ w, w ∈ spr n tg bl v p ∧ tgo n tg bl first target H (H - (h + 1)) w := by
  have := on_tgo hl hv
  rw [show H - h = (H - (h + 1)) + 1 by omega] at this
  obtain ⟨-, p, w, h1, h2, h3⟩ := this
  exact ⟨p, h1, w, h2, h3⟩
theorem on_ex (hl : lev n tg bl first H target) : ∀ h, h ≤ H → ∃ v, onC n tg bl first target H h v
  | 0, _ => ⟨first, rfl⟩
  | h + 1, hh => by
    obtain ⟨v, hv⟩ := on_ex hl h (by omega)
    obtain ⟨p, h1, w, h2, h3⟩ := cell_ex hl (by omega) hv
    obtain ⟨⟨-, v', w', h5, h6, h7⟩, -⟩ := lpQ_ok (Q := fun p => p < n ∧ ∃ v' w', onC n tg bl first target H h v' ∧ w' ∈ spr n tg bl v' p ∧ tgo n tg bl first target H (H - (h + 1)) w') ⟨h1, v, w, hv, h2, h3⟩
    exact ⟨w', h7, v', h5, h6⟩
theorem cellC_ok (hl : lev n tg bl first H target) {h : Nat} (hh : h < H) : (cellC n tg bl first target H h < n ∧ ∃ v w, onC n tg bl first target H h v ∧ w ∈ spr n tg bl v (cellC n tg bl first target H h) ∧ tgo n tg bl first target H (H - (h + 1)) w) ∧ ∀ p, p < cellC n tg bl first target H h → ¬ ∃ v w, onC n tg bl first target H h v ∧ w ∈ spr n tg bl v p ∧ tgo n tg bl first target H (H - (h + 1)) w := by
  obtain ⟨v, hv⟩ := on_ex hl h (by omega)
  obtain ⟨p, h1, w, h2, h3⟩ := cell_ex hl hh hv
  obtain ⟨k1, k2, -⟩ := lpQ_ok (Q := fun p => p < n ∧ ∃ v' w', onC n tg bl first target H h v' ∧ w' ∈ spr n tg bl v' p ∧ tgo n tg bl first target H (H - (h + 1)) w') ⟨h1, v, w, hv, h2, h3⟩
  exact ⟨k1, fun p' hp' hx => k2 p' hp' ⟨Nat.lt_trans hp' k1.1, hx⟩⟩
theorem cellsC (hl : lev n tg bl first H target) : cellsOK n tg bl first target H (cellC n tg bl first target H) := fun h hh => by
  obtain ⟨⟨h1, v, w, h2, h3⟩, h4⟩ := cellC_ok hl hh
  refine ⟨h1, ⟨v, w, (onC_e h v).mpr h2, h3⟩, fun p hp hx => h4 p hp ?_⟩
  obtain ⟨v', w', x1, x2⟩ := hx
  exact ⟨v', w', (onC_e h v').mp x1, x2⟩
/-- back from the target -/
theorem goal_back (hl : lev n tg bl first H target) : ∀ d, d ≤ H → ∃ v, onC n tg bl first target H (H - d) v ∧ goal n tg bl first target H (cellC n tg bl first target H) d v
  | 0, _ => by
    obtain ⟨v, hv⟩ := on_ex hl H (Nat.le_refl _)
    refine ⟨v, hv, ?_⟩
    have := on_tgo hl hv
    rw [Nat.sub_self] at this
    exact this
  | d + 1, hd => by
    obtain ⟨w, h1, h2⟩ := goal_back hl d (by omega)
    rw [show H - d = (H - (d + 1)) + 1 by omega] at h1
    obtain ⟨-, v, h3, h4⟩ := h1
    exact ⟨v, h3, (onC_e _ v).mpr h3, w, h4, h2⟩
theorem goal_first (hl : lev n tg bl first H target) : goal n tg bl first target H (cellC n tg bl first target H) H first := by
  obtain ⟨v, h1, h2⟩ := goal_back hl H (Nat.le_refl _)
  rw [Nat.sub_self] at h1
  have : v = first := h1
  rw [this] at h2
  exact h2
theorem row_goal (hl : lev n tg bl first H target) : ∀ h, h ≤ H → goal n tg bl first target H (cellC n tg bl first target H) (H - h) (rowC n tg bl first target H h)
  | 0, _ => goal_first hl
  | h + 1, hh => by
    have ih := row_goal hl h (by omega)
    rw [show H - h = (H - (h + 1)) + 1 by omega] at ih
    obtain ⟨-, w, h1, h2⟩ := ih
    rw [show H - (H - (h + 1) + 1) = h by omega] at h1
    exact (lpQ_ok (Q := fun w => w ∈ spr n tg bl (rowC n tg bl first target H h) (cellC n tg bl first target H h) ∧ goal n tg bl first target H (cellC n tg bl first target H) (H - (h + 1)) w) ⟨h1, h2⟩).1.2
theorem rowC_ok (hl : lev n tg bl first H target) {h : Nat} (hh : h < H) : (rowC n tg bl first target H (h + 1) ∈ spr n tg bl (rowC n tg bl first target H h) (cellC n tg bl first target H h) ∧ goal n tg bl first target H (cellC n tg bl first target H) (H - (h + 1)) (rowC n tg bl first target H (h + 1))) ∧ ∀ w, w ∈ spr n tg bl (rowC n tg bl first target H h) (cellC n tg bl first target H h) → goal n tg bl first target H (cellC n tg bl first target H) (H - (h + 1)) w → rowC n tg bl first target H (h + 1) ≤ w := by
  have ih := row_goal hl h (by omega)
  rw [show H - h = (H - (h + 1)) + 1 by omega] at ih
  obtain ⟨-, w, h1, h2⟩ := ih
  rw [show H - (H - (h + 1) + 1) = h by omega] at h1
  refine ⟨(lpQ_ok (Q := fun w => w ∈ spr n tg bl (rowC n tg bl first target H h) (cellC n tg bl first target H h) ∧ goal n tg bl first target H (cellC n tg bl first target H) (H - (h + 1)) w) ⟨h1, h2⟩).1, fun w h1 h2 => ?_⟩
  exact (lpQ_ok (Q := fun w => w ∈ spr n tg bl (rowC n tg bl first target H h) (cellC n tg bl first target H h) ∧ goal n tg bl first target H (cellC n tg bl first target H) (H - (h + 1)) w) ⟨h1, h2⟩).2.2
theorem rowsC (hl : lev n tg bl first H target) : rowsOK n tg bl first target H (cellC n tg bl first target H) (rowC n tg bl first target H) := ⟨rfl, fun _ hh => rowC_ok hl hh⟩
theorem rowC_lt (hl : lev n tg bl first H target) (hf : first < 9 ^ n) : ∀ h, h ≤ H → rowC n tg bl first target H h < 9 ^ n
  | 0, _ => hf
  | h + 1, hh => spr_lt (rowC_lt hl hf h (by omega)) (rowC_ok hl (by omega)).1.1
/-! both sides' plans are the same -/
theorem onw_cg {cell cell' : Nat → Nat} : ∀ h v, (∀ i, i < h → cell i = cell' i) → (onw n tg bl first target H cell h v ↔ onw n tg bl first target H cell' h v)
  | 0, v, _ => Iff.rfl
  | h + 1, w, hc => by
    have ih := fun v => onw_cg h v (fun i hi => hc i (by omega))
    unfold onw
    rw [hc h (by omega)]
    exact ⟨fun ⟨a, v, b, c⟩ => ⟨a, v, (ih v).mp b, c⟩, fun ⟨a, v, b, c⟩ => ⟨a, v, (ih v).mpr b, c⟩⟩
theorem cells_fn {cell cell' : Nat → Nat} (h : cellsOK n tg bl first target H cell) (h' : cellsOK n tg bl first target H cell') : ∀ i, i < H → cell i = cell' i := by
  intro i
  induction i using Nat.strongRecOn with
  | ind i ih =>
    intro hi
    obtain ⟨a1, a2, a3⟩ := h i hi
    obtain ⟨b1, b2, b3⟩ := h' i hi
    have hc : ∀ p, leadsOn n tg bl first target H cell i p ↔ leadsOn n tg bl first target H cell' i p := fun p => by
      have := fun v => onw_cg (n := n) (tg := tg) (bl := bl) (first := first) (target := target) (H := H) i v (fun k hk => ih k hk (by omega))
      exact ⟨fun ⟨v, w, x, y⟩ => ⟨v, w, (this v).mp x, y⟩, fun ⟨v, w, x, y⟩ => ⟨v, w, (this v).mpr x, y⟩⟩
    rcases Nat.lt_trichotomy (cell i) (cell' i) with z | z | z
    · exact absurd ((hc _).mp a2) (b3 _ z)
    · exact z
    · exact absurd ((hc _).mpr b2) (a3 _ z)
theorem goal_cg {cell cell' : Nat → Nat} (hc : ∀ i, i < H → cell i = cell' i) : ∀ d v, d ≤ H → (goal n tg bl first target H cell d v ↔ goal n tg bl first target H cell' d v)
  | 0, v, _ => Iff.rfl
  | d + 1, v, hd => by
    have ih := fun w => goal_cg hc d w (by omega)
    have ho := onw_cg (n := n) (tg := tg) (bl := bl) (first := first) (target := target) (H := H) (H - (d + 1)) v (fun i hi => hc i (by omega))
    unfold goal
    rw [hc (H - (d + 1)) (by omega)]
    exact ⟨fun ⟨a, w, b, c⟩ => ⟨ho.mp a, w, b, (ih w).mp c⟩, fun ⟨a, w, b, c⟩ => ⟨ho.mpr a, w, b, (ih w).mpr c⟩⟩
theorem rows_fn {cell cell' row row' : Nat → Nat} (hc : ∀ i, i < H → cell i = cell' i) (h : rowsOK n tg bl first target H cell row) (h' : rowsOK n tg bl first target H cell' row') : ∀ i, i ≤ H → row i = row' i
  | 0, _ => h.1.trans h'.1.symm
  | i + 1, hi => by
    have ih := rows_fn hc h h' i (by omega)
    obtain ⟨⟨a1, a2⟩, a3⟩ := h.2 i (by omega)
    obtain ⟨⟨b1, b2⟩, b3⟩ := h'.2 i (by omega)
    rw [ih, hc i (by omega)] at a1 a3
    have hg := fun w => goal_cg (n := n) (tg := tg) (bl := bl) (first := first) (target := target) hc (H - (i + 1)) w (by omega)
    have x1 := a3 _ b1 ((hg _).mpr b2)
    have x2 := b3 _ a1 ((hg _).mp a2)
    omega
end WX
