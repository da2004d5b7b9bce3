/-! plans, in plain numbers: rows of iron base nine, what a heat leads to, levels, the plan -/
set_option maxRecDepth 100000
/-- iron of a cell, less one -/
def dg (n v c : Nat) : Nat := v / 9 ^ (n - 1 - c) % 9
def near (a p : Nat) : Bool := decide (a ≤ p + 1) && decide (p ≤ a + 1)
/-- something cold can be held -/
def held (n tg v p : Nat) : Bool := (List.range n).any (fun c => !near c p && (tg >>> (dg n v c + 1)) % 2 == 1)
def mv1 (n v a b p : Nat) : List Nat := if (near a p || near b p) && decide (1 ≤ dg n v a) && decide (dg n v b < 8) then [v - 9 ^ (n - 1 - a) + 9 ^ (n - 1 - b)] else []
def mvs (n v p : Nat) : List Nat := (List.range n).flatMap (fun a => (if a = 0 then [] else mv1 n v a (a - 1) p) ++ (if a + 1 < n then mv1 n v a (a + 1) p else []))
def addL (L ws : List Nat) : List Nat := ws.foldl (fun L w => if L.contains w then L else L ++ [w]) L
/-- all moves of the rows from a place on -/
def rnd (n p : Nat) (L : List Nat) (fr : Nat) : List Nat := (L.drop fr).foldl (fun acc v => addL acc (mvs n v p)) L
def rnds (n p : Nat) : Nat → List Nat → Nat → List Nat
  | 0, L, _ => L
  | k + 1, L, fr => rnds n p k (rnd n p L fr) L.length
/-- all rows to which a heat at a cell leads, in the order in which both sides find them -/
def spr (n tg bl v p : Nat) : List Nat := if held n tg v p then rnds n p bl [if 1 ≤ dg n v p then v - 9 ^ (n - 1 - p) else v] 0 else []
/-- what can be there behind h heats -/
def lev (n tg bl first : Nat) : Nat → Nat → Prop
  | 0, v => v = first
  | h + 1, w => ∃ v p, lev n tg bl first h v ∧ p < n ∧ w ∈ spr n tg bl v p
/-- the fewest heats; -1: none -/
def hts (n tg bl first target : Nat) (H : Int) : Prop := (H = -1 ∧ ∀ h, h ≤ 6 → ¬ lev n tg bl first h target) ∨ ∃ k : Nat, k ≤ 6 ∧ H = k ∧ lev n tg bl first k target ∧ ∀ h, h < k → ¬ lev n tg bl first h target
/-- d heats ahead of the end it can still come to the target -/
def tgo (n tg bl first target H : Nat) : Nat → Nat → Prop
  | 0, v => v = target
  | d + 1, v => lev n tg bl first (H - (d + 1)) v ∧ ∃ p w, p < n ∧ w ∈ spr n tg bl v p ∧ tgo n tg bl first target H d w
def onw (n tg bl first target H : Nat) (cell : Nat → Nat) : Nat → Nat → Prop
  | 0, v => v = first
  | h + 1, w => tgo n tg bl first target H (H - (h + 1)) w ∧ ∃ v, onw n tg bl first target H cell h v ∧ w ∈ spr n tg bl v (cell h)
def leadsOn (n tg bl first target H : Nat) (cell : Nat → Nat) (h p : Nat) : Prop := ∃ v w, onw n tg bl first target H cell h v ∧ w ∈ spr n tg bl v p ∧ tgo n tg bl first target H (H - (h + 1)) w
def goal (n tg bl first target H : Nat) (cell : Nat → Nat) : Nat → Nat → Prop
  | 0, v => v = target
  | d + 1, v => onw n tg bl first target H cell (H - (d + 1)) v ∧ ∃ w, w ∈ spr n tg bl v (cell (H - (d + 1))) ∧ goal n tg bl first target H cell d w
def cellsOK (n tg bl first target H : Nat) (cell : Nat → Nat) : Prop := ∀ h, h < H → cell h < n ∧ leadsOn n tg bl first target H cell h (cell h) ∧ ∀ p, p < cell h → ¬ leadsOn n tg bl first target H cell h p
def rowsOK (n tg bl first target H : Nat) (cell row : Nat → Nat) : Prop := row 0 = first ∧ ∀ h, h < H → (row (h + 1) ∈ spr n tg bl (row h) (cell h) ∧ goal n tg bl first target H cell (H - (h + 1)) (row (h + 1))) ∧ ∀ w, w ∈ spr n tg bl (row h) (cell h) → goal n tg bl first target H cell (H - (h + 1)) w → row (h + 1) ≤ w
/-- the row of a bar (f at a place) -/
def rowN (n : Nat) (f : Nat → Int32) (at_ : Nat) : Nat := (List.range n).foldl (fun v c => 9 * v + ((f (at_ + c)).toInt.toNat - 1)) 0
/-- how many rows -/
noncomputable def cnt (P : Nat → Prop) : Nat → Nat
  | 0 => 0
  | k + 1 => cnt P k + @ite _ (P k) (Classical.propDecidable _) 1 0
