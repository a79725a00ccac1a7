/-! THE ABSTRACT MACHINE: cells by address (class number, values, owner: none is frozen), code lists with resolved links, the weakest precondition of a code list -/
abbrev Ent := Nat × Instr × Nat × List Nat
abbrev Cel := Nat × List Value × Option Nat
abbrev Hp := Nat × (Nat → Option Cel)
abbrev Sl := Option (Value ⊕ Value)
abbrev Post := Option Value → Hp → Prop
abbrev XPost := Nat → Nat → Hp → Prop
abbrev LSt := List Sl → List Value → Hp → Prop
abbrev Cuts := List (Nat × LSt)
abbrev KSem := Nat → List Value → Hp → Nat → Post → XPost → Prop
def nth {α : Type} : List α → Nat → Option α
  | [], _ => none
  | x :: _, 0 => some x
  | _ :: l, k + 1 => nth l k
def lkp {α : Type} : List (Nat × α) → Nat → Option α
  | [], _ => none
  | (k, v) :: l, n => cond (Nat.beq k n) (some v) (lkp l n)
/-- cells: one cell written, one cell made -/
def Put (g g' : Hp) (a : Nat) (c : Cel) : Prop := g'.1 = g.1 ∧ g'.2 a = some c ∧ ∀ b, b ≠ a → g'.2 b = g.2 b
def New (g g' : Hp) (a : Nat) (c : Cel) (n : Nat) : Prop := g.2 a = none ∧ g'.1 = g.1 + 5 + n ∧ g'.2 a = some c ∧ ∀ b, b ≠ a → g'.2 b = g.2 b
def LIM : Nat := 5495482
/-- locals -/
def put1 : List Sl → Nat → Value → List Sl
  | [], _, _ => []
  | _ :: L, 0, v => some (.inl v) :: L
  | [_], _ + 1, _ => []
  | some (.inr _) :: _ :: L, 1, v => none :: some (.inl v) :: L
  | x :: _ :: L, 1, v => x :: some (.inl v) :: L
  | x :: y :: L, k + 2, v => x :: put1 (y :: L) (k + 1) v
def put2 : List Sl → Nat → Value → List Sl
  | [], _, _ => []
  | [_], _, _ => []
  | _ :: _ :: L, 0, v => some (.inr v) :: none :: L
  | [_, _], _ + 1, _ => []
  | some (.inr _) :: _ :: _ :: L, 1, v => none :: some (.inr v) :: none :: L
  | x :: _ :: _ :: L, 1, v => x :: some (.inr v) :: none :: L
  | x :: y :: z :: L, k + 2, v => x :: put2 (y :: z :: L) (k + 1) v
def fL : List Sl → (List Sl → Prop) → Prop
  | [], k => k []
  | none :: l, k => fL l fun l' => k (none :: l')
  | some (.inl v) :: l, k => fL l fun l' => k (some (.inl v) :: l')
  | some (.inr v) :: l, k => fL l fun l' => k (some (.inr v) :: l')
def popN : Nat → List Value → List Value → (List Value → List Value → Prop) → Prop
  | 0, acc, st, f => f acc st
  | _ + 1, _, [], _ => False
  | n + 1, acc, v :: st, f => popN n (v :: acc) st f
def vcat : Value → Nat
  | .long _ => 2
  | .double _ => 2
  | _ => 1
def csum : List Value → Nat
  | [] => 0
  | v :: l => vcat v + csum l
/-- what lies on the stack below a call's operands is of eight words at most -/
def short4 (l : List Value) : Bool := Nat.ble (csum l) 8
def drp : List Ent → Nat → List Ent
  | [], _ => []
  | e :: cs, t => cond (Nat.beq e.1 t) (e :: cs) (drp cs t)
def cst : List Nat → Int32
  | [v] => nI v
  | [_, v] => - nI v
  | _ => 0
def cstL : List Nat → Int64
  | [v] => lN v
  | [_, v] => - lN v
  | _ => 0
def swt (j : Nat → Prop) (x : Int32) (dft : Prop) : List Nat → Prop
  | k :: t :: ps => (x = nI k → j t) ∧ (x ≠ nI k → swt j x dft ps)
  | _ => dft
def Nrw : Nat → Int32 → Prop
  | 1, x => x = nI 0 ∨ x = nI 1
  | 2, x => ∃ k, k < 65536 ∧ x = nI k
  | 3, x => x.toInt8.toInt32 = x
  | 0, _ => True
  | _, _ => False
def fitW : Nat → Value → Prop
  | 0, .int _ => True
  | 1, .int x => Nrw 1 x
  | 2, .int x => Nrw 2 x
  | 3, .int x => Nrw 3 x
  | 5, .ref _ => True
  | 5, .null => True
  | 6, .long _ => True
  | _, _ => False
def cpyL {α : Type} (fs : List α) (sp : Nat) (gs : List α) (dp n : Nat) : List α := gs.take dp ++ (fs.drop sp).take n ++ gs.drop (dp + n)
