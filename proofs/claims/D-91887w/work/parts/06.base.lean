/-! BASE: lifted functions' combinators; a store of cells by numbers; rows over the store -/
set_option maxRecDepth 100000
def letB {α β : Type} (a : α) (f : α → Option β) : Option β := f a
theorem letB_e {α β : Type} {a : α} {f : α → Option β} {o : β} {x : α} (h : letB a f = some o) (e : x = a) : f x = some o := by subst e; exact h
def ckB {β : Type} (i : Int32) (n : Nat) (x : Option β) : Option β := if i < 0 ∨ n ≤ i.toNatClampNeg then none else x
theorem ckB_e {β : Type} {i : Int32} {n : Nat} {x : Option β} {o : β} (h : ckB i n x = some o) : vp_in i n ∧ x = some o := by
  unfold ckB at h
  split at h
  · cases h
  · exact ⟨by assumption, h⟩
theorem ckB_t {β : Type} {i : Int32} {n : Nat} {x : Option β} (h : vp_in i n) : ckB i n x = x := if_neg h
def ckD {β : Type} (y : Int32) (x : Option β) : Option β := if y = 0 then none else x
theorem ckD_e {β : Type} {y : Int32} {x : Option β} {o : β} (h : ckD y x = some o) : ¬ y = 0 ∧ x = some o := by
  unfold ckD at h
  split at h
  · cases h
  · exact ⟨by assumption, h⟩
def ckL {β : Type} (y : Int64) (x : Option β) : Option β := if y = 0 then none else x
theorem ckL_e {β : Type} {y : Int64} {x : Option β} {o : β} (h : ckL y x = some o) : ¬ y = 0 ∧ x = some o := by
  unfold ckL at h
  split at h
  · cases h
  · exact ⟨by assumption, h⟩
/-- a boolean is 0 or 1 -/
def ckZ {β : Type} (y : Int32) (x : Option β) : Option β := if y = 0 ∨ y = 1 then x else none
theorem zz_nar {y : Int32} (h : y = 0 ∨ y = 1) : narrow .boolean (.int y) = .int y ∧ fits .boolean (.int y) = true := by
  rcases h with rfl | rfl <;> exact ⟨rfl, rfl⟩
theorem ckZ_e {β : Type} {y : Int32} {x : Option β} {o : β} (h : ckZ y x = some o) : (narrow .boolean (.int y) = .int y ∧ fits .boolean (.int y) = true) ∧ x = some o := by
  unfold ckZ at h
  split at h
  · exact ⟨zz_nar (by assumption), h⟩
  · cases h
theorem ite_t {β : Type} {P : Prop} [Decidable P] {a b : Option β} {o : β} (h : (if P then a else b) = some o) (hP : P) : a = some o := by rwa [if_pos hP] at h
theorem ite_f {β : Type} {P : Prop} [Decidable P] {a b : Option β} {o : β} (h : (if P then a else b) = some o) (hP : ¬ P) : b = some o := by rwa [if_neg hP] at h
def bn1 {α β : Type} (x : Option α) (f : α → Option β) : Option β := match x with
  | some a => f a
  | none => none
theorem bn1_e {α β : Type} {x : Option α} {f : α → Option β} {o : β} (h : bn1 x f = some o) : ∃ a, x = some a ∧ f a = some o := by
  cases x with
  | none => cases h
  | some a => exact ⟨a, rfl, h⟩
def bn2 {α γ β : Type} (x : Option (α × γ)) (f : α → γ → Option β) : Option β := match x with
  | some (a, g) => f a g
  | none => none
theorem bn2_e {α γ β : Type} {x : Option (α × γ)} {f : α → γ → Option β} {o : β} (h : bn2 x f = some o) : ∃ a g, x = some (a, g) ∧ f a g = some o := by
  cases x with
  | none => cases h
  | some q => exact ⟨q.1, q.2, rfl, h⟩
/-- a loop: its body says how it goes on -/
def iter {α β : Type} (f : α → Option (β ⊕ α)) : Nat → α → Option β
  | 0, _ => none
  | n + 1, a => match f a with
    | none => none
    | some (.inl b) => some b
    | some (.inr a') => iter f n a'
theorem iter_e {α β : Type} {f : α → Option (β ⊕ α)} {n : Nat} {a : α} {b : β} (h : iter f (n + 1) a = some b) : ∃ r, f a = some r ∧ ((r = .inl b) ∨ ∃ a', r = .inr a' ∧ iter f n a' = some b) := by
  unfold iter at h
  split at h
  · cases h
  · rename_i b' hb
    cases h
    exact ⟨_, hb, Or.inl rfl⟩
  · rename_i a' ha
    exact ⟨_, ha, Or.inr ⟨a', rfl, h⟩⟩
/-- how often a loop may turn -/
def FU : Nat := 2147483648
/-! the store -/
abbrev St : Type := (Nat → Nat → Int32) × (Nat → Nat → Int64) × (Nat → Nat → Int32) × (Nat → Nat → Option Nat)
def gI (σ : St) (c k : Nat) : Int32 := σ.1 c k
def gL (σ : St) (c k : Nat) : Int64 := σ.2.1 c k
def gA (σ : St) (c i : Nat) : Int32 := σ.2.2.1 c i
def gR (σ : St) (c i : Nat) : Option Nat := σ.2.2.2 c i
def u2 {α : Type} (f : Nat → Nat → α) (c k : Nat) (x : α) : Nat → Nat → α := fun c' k' => if c' = c ∧ k' = k then x else f c' k'
def pI (σ : St) (c k : Nat) (x : Int32) : St := (u2 σ.1 c k x, σ.2)
def pL (σ : St) (c k : Nat) (x : Int64) : St := (σ.1, u2 σ.2.1 c k x, σ.2.2)
def pA (σ : St) (c k : Nat) (x : Int32) : St := (σ.1, σ.2.1, u2 σ.2.2.1 c k x, σ.2.2.2)
def pR (σ : St) (c k : Nat) (x : Option Nat) : St := (σ.1, σ.2.1, σ.2.2.1, u2 σ.2.2.2 c k x)
theorem gI_pI (σ : St) (c k c' k' : Nat) (x : Int32) : gI (pI σ c k x) c' k' = if c' = c ∧ k' = k then x else gI σ c' k' := rfl
theorem gL_pL (σ : St) (c k c' k' : Nat) (x : Int64) : gL (pL σ c k x) c' k' = if c' = c ∧ k' = k then x else gL σ c' k' := rfl
theorem gA_pA (σ : St) (c k c' k' : Nat) (x : Int32) : gA (pA σ c k x) c' k' = if c' = c ∧ k' = k then x else gA σ c' k' := rfl
theorem gR_pR (σ : St) (c k c' k' : Nat) (x : Option Nat) : gR (pR σ c k x) c' k' = if c' = c ∧ k' = k then x else gR σ c' k' := rfl
theorem gI_pL (σ : St) (c k c' k' : Nat) (x : Int64) : gI (pL σ c k x) c' k' = gI σ c' k' := rfl
theorem gI_pA (σ : St) (c k c' k' : Nat) (x : Int32) : gI (pA σ c k x) c' k' = gI σ c' k' := rfl
theorem gI_pR (σ : St) (c k c' k' : Nat) (x : Option Nat) : gI (pR σ c k x) c' k' = gI σ c' k' := rfl
theorem gL_pI (σ : St) (c k c' k' : Nat) (x : Int32) : gL (pI σ c k x) c' k' = gL σ c' k' := rfl
theorem gL_pA (σ : St) (c k c' k' : Nat) (x : Int32) : gL (pA σ c k x) c' k' = gL σ c' k' := rfl
theorem gL_pR (σ : St) (c k c' k' : Nat) (x : Option Nat) : gL (pR σ c k x) c' k' = gL σ c' k' := rfl
theorem gA_pI (σ : St) (c k c' k' : Nat) (x : Int32) : gA (pI σ c k x) c' k' = gA σ c' k' := rfl
theorem gA_pL (σ : St) (c k c' k' : Nat) (x : Int64) : gA (pL σ c k x) c' k' = gA σ c' k' := rfl
theorem gA_pR (σ : St) (c k c' k' : Nat) (x : Option Nat) : gA (pR σ c k x) c' k' = gA σ c' k' := rfl
theorem gR_pI (σ : St) (c k c' k' : Nat) (x : Int32) : gR (pI σ c k x) c' k' = gR σ c' k' := rfl
theorem gR_pL (σ : St) (c k c' k' : Nat) (x : Int64) : gR (pL σ c k x) c' k' = gR σ c' k' := rfl
theorem gR_pA (σ : St) (c k c' k' : Nat) (x : Int32) : gR (pA σ c k x) c' k' = gR σ c' k' := rfl
/-- a cell's shape: (0, class, _, fields) or (1, array type, length, _): ints; (2, array type, length, _): references. A field: (0, _) int, (1, _) long, (2, cell), (3, _) a reference of the state -/
abbrev Sh : Type := Nat × Nat × Nat × List (Nat × Nat)
def fvOf (ad : Nat → Nat) (σ : St) (c j : Nat) (f : Nat × Nat) : Value := match f.1 with
  | 0 => .int (gI σ c j)
  | 1 => .long (gL σ c j)
  | 2 => .ref (ad f.2)
  | _ => va_rf ((gR σ c j).map ad)
def ceOf (ad : Nat → Nat) (dc : Nat → ClassId) (σ : St) (c : Nat) (q : Sh) : va_E := match q.1 with
  | 0 => .inr (q.2.1, q.2.2.2.mapIdx (fun j f => fvOf ad σ c j f))
  | 1 => .inl (dc q.2.1, q.2.2.1, .inl (gA σ c))
  | _ => .inl (dc q.2.1, q.2.2.1, .inr (.inr (.inr (.inr (fun i => (gR σ c i).map ad)))))
/-- the cells of the numbers ks -/
def wsOf (ks : List Nat) (sh : Nat → Sh) (ad : Nat → Nat) (dc : Nat → ClassId) (σ : St) : va_W := ks.map (fun c => (ad c, ceOf ad dc σ c (sh c)))
theorem wsOf_at {ks : List Nat} {sh : Nat → Sh} {ad : Nat → Nat} {dc : Nat → ClassId} {σ : St} {i k : Nat} (h : ks[i]? = some k) : (wsOf ks sh ad dc σ)[i]? = some (ad k, ceOf ad dc σ k (sh k)) := by
  simp [wsOf, h]
theorem wsOf_out {ks : List Nat} {sh : Nat → Sh} {ad : Nat → Nat} {dc : Nat → ClassId} {σ : St} {i : Nat} {q : Nat × va_E} (h : (wsOf ks sh ad dc σ)[i]? = some q) : ∃ k, ks[i]? = some k ∧ q = (ad k, ceOf ad dc σ k (sh k)) := by
  simp only [wsOf, List.getElem?_map] at h
  cases hk : ks[i]? with
  | none => rw [hk] at h; cases h
  | some k => rw [hk] at h; exact ⟨k, rfl, (Option.some.inj h).symm⟩
theorem nd_inj : ∀ {ks : List Nat} (_ : ks.Nodup) {i j k : Nat}, ks[i]? = some k → ks[j]? = some k → i = j
  | [], _, i, j, k, h, _ => by simp at h
  | b :: l, hn, i, j, k, h1, h2 => by
    rw [List.nodup_cons] at hn
    cases i with
    | zero =>
      cases j with
      | zero => rfl
      | succ j =>
        rw [List.getElem?_cons_zero] at h1
        rw [List.getElem?_cons_succ] at h2
        cases h1
        exact absurd (List.mem_of_getElem? h2) hn.1
    | succ i =>
      rw [List.getElem?_cons_succ] at h1
      cases j with
      | zero =>
        rw [List.getElem?_cons_zero] at h2
        cases h2
        exact absurd (List.mem_of_getElem? h1) hn.1
      | succ j =>
        rw [List.getElem?_cons_succ] at h2
        rw [nd_inj hn.2 h1 h2]
theorem wsOf_set {ks : List Nat} {sh : Nat → Sh} {ad : Nat → Nat} {dc : Nat → ClassId} {σ σ' : St} {i k : Nat} {x : va_E} (hn : ks.Nodup) (h : ks[i]? = some k) (hx : ceOf ad dc σ' k (sh k) = x) (ho : ∀ c, c ≠ k → ceOf ad dc σ' c (sh c) = ceOf ad dc σ c (sh c)) :
    (wsOf ks sh ad dc σ).set i (ad k, x) = wsOf ks sh ad dc σ' := by
  have hl : i < ks.length := (List.getElem?_eq_some_iff.mp h).1
  apply List.ext_getElem?
  intro j
  by_cases hj : j = i
  · subst hj
    rw [List.getElem?_set_self (by simpa [wsOf] using hl), wsOf_at h, hx]
  · rw [List.getElem?_set_ne (Ne.symm hj)]
    simp only [wsOf, List.getElem?_map]
    cases hk : ks[j]? with
    | none => rfl
    | some c =>
      have hc : c ≠ k := fun q => hj (nd_inj hn (q ▸ hk) h)
      simp [ho c hc]
theorem wsOf_D {ks : List Nat} {sh : Nat → Sh} {ad : Nat → Nat} {dc : Nat → ClassId} {σ : St} {A : Nat → Prop} (hi : ∀ i j, ad i = ad j → i = j) (hn : ks.Nodup) (hA : ∀ k, k ∈ ks → A (ad k)) : va_D A (wsOf ks sh ad dc σ) := by
  refine ⟨fun i j p q h1 h2 h => ?_, fun k q h => ?_⟩
  · obtain ⟨a, ha, rfl⟩ := wsOf_out h1
    obtain ⟨b, hb, rfl⟩ := wsOf_out h2
    have e : a = b := hi a b h
    subst e
    exact nd_inj hn ha hb
  · obtain ⟨a, ha, rfl⟩ := wsOf_out h
    exact hA a (List.mem_of_getElem? ha)
theorem ce_o {ad : Nat → Nat} {dc : Nat → ClassId} {σ : St} {c ci : Nat} {q : Sh} {x : Nat} {fl : List (Nat × Nat)} (h : q = (0, ci, x, fl)) : ceOf ad dc σ c q = .inr (ci, fl.mapIdx (fun j f => fvOf ad σ c j f)) := by subst h; rfl
theorem ce_a {ad : Nat → Nat} {dc : Nat → ClassId} {σ : St} {c t n : Nat} {q : Sh} {fl : List (Nat × Nat)} (h : q = (1, t, n, fl)) : ceOf ad dc σ c q = .inl (dc t, n, .inl (gA σ c)) := by subst h; rfl
theorem ce_r {ad : Nat → Nat} {dc : Nat → ClassId} {σ : St} {c t n : Nat} {q : Sh} {fl : List (Nat × Nat)} (h : q = (2, t, n, fl)) : ceOf ad dc σ c q = .inl (dc t, n, .inr (.inr (.inr (.inr (fun i => (gR σ c i).map ad))))) := by subst h; rfl
theorem fl_get {ad : Nat → Nat} {σ : St} {c j : Nat} {fl : List (Nat × Nat)} {f : Nat × Nat} (h : fl[j]? = some f) : (fl.mapIdx (fun j f => fvOf ad σ c j f))[j]? = some (fvOf ad σ c j f) := by
  simp [List.getElem?_mapIdx, h]
/-- two states that agree off one cell -/
theorem ce_off {ad : Nat → Nat} {dc : Nat → ClassId} {σ σ' : St} {c : Nat} {q : Sh} (h1 : ∀ k, gI σ' c k = gI σ c k) (h2 : ∀ k, gL σ' c k = gL σ c k) (h3 : ∀ k, gA σ' c k = gA σ c k) (h4 : ∀ k, gR σ' c k = gR σ c k) : ceOf ad dc σ' c q = ceOf ad dc σ c q := by
  have e3 : gA σ' c = gA σ c := funext h3
  have e4 : gR σ' c = gR σ c := funext h4
  have e : ∀ j f, fvOf ad σ' c j f = fvOf ad σ c j f := by
    intro j f
    unfold fvOf
    rw [h1, h2, h4]
  unfold ceOf
  rw [e3, e4]
  have e5 : (fun j f => fvOf ad σ' c j f) = (fun j f => fvOf ad σ c j f) := funext fun j => funext fun f => e j f
  rw [e5]
theorem fl_set {ad : Nat → Nat} {σ σ' : St} {c j : Nat} {fl : List (Nat × Nat)} {f : Nat × Nat} {v : Value} (h : fl[j]? = some f) (hv : fvOf ad σ' c j f = v) (ho : ∀ i g, i ≠ j → fvOf ad σ' c i g = fvOf ad σ c i g) :
    fl.mapIdx (fun j f => fvOf ad σ' c j f) = (fl.mapIdx (fun j f => fvOf ad σ c j f)).set j v := by
  apply List.ext_getElem?
  intro i
  by_cases hi : i = j
  · subst hi
    have hl := (List.getElem?_eq_some_iff.mp h).1
    rw [List.getElem?_set_self (by simpa using hl)]
    simp [List.getElem?_mapIdx, h, hv]
  · rw [List.getElem?_set_ne (Ne.symm hi)]
    simp only [List.getElem?_mapIdx]
    cases fl[i]? with
    | none => rfl
    | some g => simp [ho i g hi]
