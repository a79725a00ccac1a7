/-! THE PURE SYSTEM: texts, templates, values, expressions as functions, marks, rendering, the house -/
def NONE : Nat := 4294967295
def sg (S : List Nat) (p : Nat) : Nat := S.getD p 10
def isIn (c a b : Nat) : Bool := Nat.ble a c && Nat.ble c b
def dig (c : Nat) : Bool := isIn c 48 57
def sml (c : Nat) : Bool := isIn c 97 122
def cap (c : Nat) : Bool := isIn c 65 90
def lod (c : Nat) : Bool := sml c || cap c || dig c
def quo (c : Nat) : Bool := lod c || c == 32
def SGN : List Nat := [32, 60, 62, 34, 38, 61, 47, 39, 43, 124, 58, 33, 63, 42, 35, 94, 36, 64, 46, 44, 40, 41, 45, 123, 125]
def NAMD : List Nat := [97, 98, 99, 100, 101, 102, 103, 104, 105, 110, 112]
def FILT : List Nat := [85, 76, 67, 83, 74, 82, 68]
def scan (f : Nat → Bool) (S : List Nat) : Nat → Nat → Nat
  | 0, p => p
  | k + 1, p => cond (f (sg S p)) (scan f S k (p + 1)) p
/-- where a sign of text leads -/
def mvd (w c : Nat) : Nat := if w = 0 then (if c = 60 then 1 else 0) else if w = 1 then (if c = 62 then 0 else if c = 34 then 2 else 1) else if c = 34 then 1 else 2
/-! values: kind, number, text, safe; with a list of such -/
abbrev Sc := Nat × Int × List Nat × Bool
abbrev Vl := Sc × List Sc
def vNo : Vl := ((0, 0, [], true), [])
def vNum (z : Int) : Vl := ((1, z, [], true), [])
def vTxt (s : List Nat) (b : Bool) : Vl := ((2, 0, s, b), [])
def vLst (l : List Sc) : Vl := ((3, 0, [], true), l)
def kd (v : Vl) : Nat := v.1.1
def nm (v : Vl) : Int := v.1.2.1
def tx (v : Vl) : List Nat := v.1.2.2.1
def sf (v : Vl) : Bool := v.1.2.2.2
def KIND : Nat := 1
def RANGE : Nat := 2
def DEEP : Nat := 3
def LONG : Nat := 4
def BUDGET : Nat := 5
def MIXED : Nat := 6
def LACK : Nat := 7
/-- an error's number, or a value with what was read -/
abbrev Rs := Nat ⊕ Vl
def ofN (z : Int) : Rs := if -9999 ≤ z ∧ z ≤ 9999 then .inr (vNum z) else .inl RANGE
def ofT (s : List Nat) (b : Bool) : Rs := if s.length ≤ 40 then .inr (vTxt s b) else .inl RANGE
def digs : Nat → Nat → List Nat
  | 0, _ => []
  | k + 1, n => if n < 10 then [48 + n] else digs k (n / 10) ++ [48 + n % 10]
def decN (n : Nat) : List Nat := digs 12 n
def decZ (z : Int) : List Nat := if z < 0 then 45 :: decN z.natAbs else decN z.natAbs
def saidS (v : Sc) : List Nat := if v.1 = 1 then decZ v.2.1 else v.2.2.1
def said (v : Vl) : List Nat := saidS v.1
def isTrue (v : Vl) : Bool := if kd v = 1 then decide (nm v ≠ 0) else if kd v = 2 then !(tx v).isEmpty else kd v == 3 && !v.2.isEmpty
def alkS (a b : Sc) : Bool := a.1 == b.1 && decide (a.2.1 = b.2.1) && decide (a.2.2.1 = b.2.2.1)
def alkL : List Sc → List Sc → Bool
  | [], _ => true
  | a :: l, b :: m => alkS a b && alkL l m
  | _ :: _, [] => false
def alike (a b : Vl) : Bool := alkS a.1 b.1 && decide (a.2.length = b.2.length) && alkL a.2 b.2
def lexL : List Nat → List Nat → Bool
  | [], [] => false
  | [], _ :: _ => true
  | _ :: _, [] => false
  | a :: l, b :: m => if a = b then lexL l m else decide (a < b)
def vAdd (a b : Vl) : Rs :=
  if kd a = 3 ∨ kd b = 3 then .inl KIND
  else if kd a = 0 ∧ kd b = 0 then .inr a
  else if kd a = 1 ∧ kd b = 1 then ofN (nm a + nm b)
  else ofT (said a ++ said b) (sf a && sf b)
def vLess (a b : Vl) : Rs :=
  if kd a = kd b ∧ (kd a = 1 ∨ kd a = 2) then ofN (if kd a = 1 then (if nm a < nm b then 1 else 0) else if lexL (tx a) (tx b) then 1 else 0)
  else .inl KIND
def bN (b : Bool) : Nat := cond b 1 0
def csd (up : Bool) (c : Nat) : Nat := if up then (if sml c then c - 32 else c) else if cap c then c + 32 else c
def joinT : Bool → List Sc → List Nat
  | _, [] => []
  | fst, v :: l => (if fst then [] else [44]) ++ saidS v ++ joinT false l
/-- a filter, of a value that is not nothing -/
def vFil (c : Nat) (v : Vl) : Rs :=
  if kd v = 0 then .inr v
  else if c = 85 ∨ c = 76 then (if kd v = 1 then .inr v else if kd v = 2 then ofT ((tx v).map (csd (c == 85))) (sf v) else .inl KIND)
  else if c = 67 then (if kd v = 3 then ofN v.2.length else if kd v = 2 then ofN (tx v).length else .inl KIND)
  else if c = 83 then (if kd v = 3 then .inl KIND else ofT (said v) true)
  else if c = 74 then (if kd v = 3 then ofT (joinT true v.2) false else .inl KIND)
  else if kd v = 3 then .inr (vLst v.2.reverse) else if kd v = 2 then ofT (tx v).reverse (sf v) else .inl KIND
def vAt (v : Vl) (k : Nat) : Vl := match v.2[k]? with
  | some x => (x, [])
  | none => vNo
/-! expressions: a reading gives where it ends, how many signs did something, what is computed -/
/-- data, element, number, given -/
abbrev Dt := List (Option Vl) × Vl × Vl × Vl
/-- what is computed: of data and what was read (bits), a value and what is read now -/
abbrev Fn := Dt → Nat → Nat ⊕ Vl × Nat
def fnB (f : Fn) (k : Vl → Fn) : Fn := fun D R => match f D R with
  | .inl e => .inl e
  | .inr (v, R) => k v D R
def fnR (r : Rs) : Fn := fun _ R => match r with
  | .inl e => .inl e
  | .inr v => .inr (v, R)
def fnName (c : Nat) : Fn := fun D R =>
  if c = 105 then .inr (D.2.1, R ||| 256) else if c = 110 then .inr (D.2.2.1, R ||| 256) else if c = 112 then .inr (D.2.2.2, R ||| 256)
  else .inr ((D.1.getD (c - 97) none).getD vNo, R ||| 2 ^ (c - 97))
def fnPair (c : Nat) (f g : Fn) : Fn := fnB f fun a => fnB g fun b => fnR (if c = 43 then vAdd a b else if c = 61 then ofN (bN (alike a b)) else vLess a b)
def fnNot (f : Fn) : Fn := fnB f fun v => fnR (ofN (bN (!isTrue v)))
def fnAt (k : Nat) (f : Fn) : Fn := fnB f fun v => fnR (.inr (vAt v k))
def fnOr (f g : Fn) : Fn := fnB f fun v => if kd v = 0 then g else fnR (.inr v)
def fnFil (c : Nat) (f : Fn) : Fn := fnB f fun v => fnR (vFil c v)
def numAt (S : List Nat) (p : Nat) : Nat → Nat
  | 0 => 0
  | k + 1 => 10 * numAt S p k + (sg S (p + k) - 48)
def sub (S : List Nat) (p q : Nat) : List Nat := (S.take q).drop p
abbrev PR := Option (Nat ⊕ Nat × Nat × Fn)
def pB (r : PR) (f : Nat → Nat → Fn → PR) : PR := match r with
  | none => none
  | some (.inl q) => some (.inl q)
  | some (.inr (p, c, x)) => f p c x
def act (p c : Nat) (f : Nat → Nat → PR) : PR := if c < 8 then f (p + 1) (c + 1) else some (.inl p)
def fn0 : Fn := fnR (.inr vNo)
/-- kinds: 0 expression, 1 sum, 2 sum from here on, 3 filtered, 4 filtered from here on, 5 element, 6 atom -/
def px (S : List Nat) : Nat → Nat → Nat → Nat → Fn → PR
  | 0, _, _, _, _ => none
  | n + 1, 0, p, c, _ => pB (px S n 1 p c fn0) fun p c f => if sg S p = 61 ∨ sg S p = 60 then act p c fun q c => pB (px S n 1 q c fn0) fun q c g => some (.inr (q, c, fnPair (sg S p) f g)) else some (.inr (p, c, f))
  | n + 1, 1, p, c, _ => pB (px S n 3 p c fn0) fun p c f => px S n 2 p c f
  | n + 1, 2, p, c, f => if sg S p = 43 then act p c fun p c => pB (px S n 3 p c fn0) fun p c g => px S n 2 p c (fnPair 43 f g) else some (.inr (p, c, f))
  | n + 1, 3, p, c, _ => pB (px S n 5 p c fn0) fun p c f => px S n 4 p c f
  | n + 1, 4, p, c, f => if sg S p = 124 then act p c fun p c => (if FILT.contains (sg S p) then (if sg S p = 68 then pB (px S n 5 (p + 1) c fn0) fun q c g => px S n 4 q c (fnOr f g) else px S n 4 (p + 1) c (fnFil (sg S p) f)) else some (.inl p)) else some (.inr (p, c, f))
  | n + 1, 5, p, c, _ => pB (px S n 6 p c fn0) fun p c f => if sg S p = 46 then act p c fun p c => (if isIn (sg S p) 48 53 then some (.inr (p + 1, c, fnAt (sg S p - 48) f)) else some (.inl p)) else some (.inr (p, c, f))
  | n + 1, _, p, c, _ =>
    if NAMD.contains (sg S p) then some (.inr (p + 1, c, fnName (sg S p)))
    else if sg S p = 33 then act p c fun p c => pB (px S n 5 p c fn0) fun p c f => some (.inr (p, c, fnNot f))
    else if sg S p = 40 then pB (px S n 0 (p + 1) c fn0) fun p c f => if sg S p = 41 then some (.inr (p + 1, c, f)) else some (.inl p)
    else if sg S p = 39 then (let q := scan quo S 40 (p + 1); if sg S q = 39 then some (.inr (q + 1, c, fnR (.inr (vTxt (sub S (p + 1) q) true)))) else some (.inl q))
    else if dig (sg S p) then (let q := scan dig S 4 p; some (.inr (q, c, fnR (.inr (vNum (numAt S p (q - p)))))))
    else some (.inl p)
/-- the whole expression of a mark -/
def whl (S : List Nat) (p : Nat) : Nat ⊕ Nat × Fn := match px S (8 * (S.length + 2)) 0 p 0 fn0 with
  | none => .inl 0
  | some (.inl q) => .inl q
  | some (.inr (q, _, f)) => .inr (q, f)
/-! marks: place, where one is, open marks, closes, others, ends, blocks, macros, how many marks -/
abbrev Tb := List Nat × List Nat × List Nat × List Nat × List Nat × Nat
abbrev Ps := Nat × Nat × List (Nat × Nat) × Tb
def sB {α β : Type} (r : Nat ⊕ α) (f : α → Nat ⊕ β) : Nat ⊕ β := match r with
  | .inl q => .inl q
  | .inr a => f a
def wthn (S : List Nat) (stk : List (Nat × Nat)) (cs : List Nat) : Bool := stk.any fun b => cs.contains (sg S (b.1 + 1))
def nmM (S told : List Nat) (p : Nat) (can : Bool) : Nat ⊕ Nat :=
  if can && told.contains NONE then (if isIn (sg S (p + 1)) 65 70 && told.getD (sg S (p + 1) - 65) 0 == NONE then .inr (sg S (p + 1) - 65) else .inl (p + 1)) else .inl p
/-- the } that closes a mark -/
def fin (S : List Nat) (f p pl : Nat) (stk : List (Nat × Nat)) (T : Tb) : Nat ⊕ Ps := if sg S p = 125 then .inr (p + 1, pl, stk, T.1.set f p, T.2) else .inl p
def mk1 (S : List Nat) (f pl : Nat) (stk : List (Nat × Nat)) (c : Nat) : Tb → Nat ⊕ Ps
  | (cl, ot, en, bl, ma, mn) =>
    if c = 63 ∨ c = 42 then sB (whl S (f + 2)) fun r => fin S f r.1 pl ((f, pl) :: stk) (cl, ot.set f NONE, en, bl, ma, mn + 1)
    else if c = 35 then sB (nmM S bl (f + 1) true) fun w => fin S f (f + 3) pl ((f, pl) :: stk) (cl, ot.set f NONE, en, bl.set w f, ma, mn + 1)
    else if c = 36 then sB (nmM S ma (f + 1) stk.isEmpty) fun w => fin S f (f + 3) 0 ((f, pl) :: stk) (cl, ot.set f NONE, en, bl, ma.set w f, mn + 1)
    else if c = 61 then (if wthn S stk [42, 36, 61] then .inl (f + 1) else fin S f (f + 2) pl ((f, pl) :: stk) (cl, ot.set f NONE, en, bl, ma, mn + 1))
    else if c = 94 then (if wthn S stk [35] then fin S f (f + 2) pl stk (cl, ot, en, bl, ma, mn + 1) else .inl (f + 1))
    else if c = 60 then (if f = 0 then (if isIn (sg S (f + 2)) 48 53 then fin S f (f + 3) pl stk (cl, ot, en, bl, ma, mn + 1) else .inl (f + 2)) else .inl (f + 1))
    else if c = 38 then (if isIn (sg S (f + 2)) 48 53 then fin S f (f + 3) pl stk (cl, ot, en, bl, ma, mn + 1) else .inl (f + 2))
    else if c = 64 then (if isIn (sg S (f + 2)) 65 70 then (if sg S (f + 3) = 58 then sB (whl S (f + 4)) fun r => fin S f r.1 pl stk (cl, ot, en, bl, ma, mn + 1) else fin S f (f + 3) pl stk (cl, ot, en, bl, ma, mn + 1)) else .inl (f + 2))
    else if c = 45 then fin S f (f + 2) pl stk (cl, ot, en, bl, ma, mn + 1)
    else if c = 58 then (match stk with
      | [] => .inl (f + 1)
      | (b, bp) :: _ => if (sg S (b + 1) = 63 ∨ sg S (b + 1) = 42) ∧ ot.getD b 0 = NONE ∧ pl = bp then fin S f (f + 2) pl stk (cl, ot.set b f, en, bl, ma, mn) else .inl (f + 1))
    else if c = 47 then (match stk with
      | [] => .inl (f + 1)
      | (b, bp) :: stk' => if pl = (if sg S (b + 1) = 36 then 0 else bp) then fin S f (f + 2) bp stk' (cl, ot, en.set b f, bl, ma, mn) else .inl (f + 1))
    else sB (whl S (f + 1)) fun r => fin S f r.1 pl stk (cl, ot, en, bl, ma, mn + 1)
def stp (S : List Nat) : Ps → Nat ⊕ Ps
  | (p, pl, stk, T) => if sg S p = 123 then (if p + 1 < S.length then mk1 S p pl stk (sg S (p + 1)) T else .inl (p + 1)) else .inr (p + 1, mvd pl (sg S p), stk, T)
def run (S : List Nat) : Nat → Ps → Nat ⊕ Tb
  | 0, _ => .inl 0
  | n + 1, (p, pl, stk, T) => if p < S.length then sB (stp S (p, pl, stk, T)) (run S n) else if stk = [] ∧ pl = 0 then .inr T else .inl p
def ini (S : List Nat) : Ps := (0, 0, [], List.replicate (S.length + 1) 0, List.replicate (S.length + 1) 0, List.replicate (S.length + 1) 0, List.replicate 6 NONE, List.replicate 6 NONE, 0)
def parse (S : List Nat) : Nat ⊕ Tb := run S (S.length + 1) (ini S)
/-- blanks that are left out -/
def loF (S : List Nat) : Nat → Nat → Bool
  | 0, _ => false
  | n + 1, p => if sg S p = 32 then loF S n (p + 1) else sg S p == 123 && sg S (p + 1) == 45
def loB (S : List Nat) : Nat → Bool
  | 0 => false
  | p + 1 => if sg S p = 32 then loB S p else sg S p == 125 && Nat.ble 2 p && sg S (p - 1) == 45 && sg S (p - 2) == 123
def lo (S : List Nat) (p : Nat) : Bool := sg S p == 32 && (loF S S.length p || loB S p)
def tcl (T : Tb) (p : Nat) : Nat := T.1.getD p 0
def tot (T : Tb) (p : Nat) : Nat := T.2.1.getD p 0
def ten (T : Tb) (p : Nat) : Nat := T.2.2.1.getD p 0
def tbl (T : Tb) (k : Nat) : Nat := T.2.2.2.1.getD k NONE
def tma (T : Tb) (k : Nat) : Nat := T.2.2.2.2.1.getD k NONE
def tmk (T : Tb) : Nat := T.2.2.2.2.2
abbrev Tm := List Nat × Tb
def abv (S : List Nat) : Nat := if 2 < S.length ∧ sg S 0 = 123 ∧ sg S 1 = 60 then sg S 2 - 48 else NONE
/-- where a span leads from a place, if each part of it ends where it begins; NONE otherwise -/
def lds (S : List Nat) (T : Tb) : Nat → Nat → Nat → Nat → Nat
  | 0, _, _, _ => NONE
  | n + 1, b, e, w => if b < e then (if sg S b ≠ 123 then lds S T n (b + 1) e (mvd w (sg S b)) else
      let c := sg S (b + 1)
      if c = 63 ∨ c = 42 ∨ c = 35 ∨ c = 61 then
        (if (lds S T n (tcl T b + 1) (if tot T b = NONE then ten T b else tot T b) w = w) ∧ (tot T b = NONE ∨ lds S T n (tcl T (tot T b) + 1) (ten T b) w = w) then lds S T n (tcl T (ten T b) + 1) e w else NONE)
      else if c = 36 then lds S T n (tcl T (ten T b) + 1) e w
      else lds S T n (tcl T b + 1) e w) else w
def fts (M : Tm) (b e w : Nat) : Bool := lds M.1 M.2 (M.1.length + 1) b e w == w
/-! rendering -/
/-- a kept part: its number, template, place of the mark, lowest template, where one was, text, what it read -/
abbrev Kp := Nat × Nat × Nat × Nat × Nat × List Nat × Nat
/-- steps, where one is, out, read, kept, renewed, reused, next number of a kept part, work -/
abbrev St := Nat × Nat × List Nat × Nat × List Kp × Nat × Nat × Nat × Nat
def st0 (kept : List Kp) (nx : Nat) : St := (0, 0, [], 0, kept, 0, 0, nx, 0)
/-- error, places, state -/
abbrev Er := Nat × List Nat × St
abbrev RR := Option (Er ⊕ St)
def rB (r : RR) (f : St → RR) : RR := match r with
  | none => none
  | some (.inl e) => some (.inl e)
  | some (.inr s) => f s
/-- templates, data, whether parts are kept -/
abbrev Hs := List (Option Tm) × List (Option Vl) × Bool
def tmp (H : Hs) (k : Nat) : Tm := (H.1.getD k none).getD ([], [], [], [], [], [], 0)
def hasT (H : Hs) (k : Nat) : Bool := (H.1.getD k none).isSome
def err (e m : Nat) (ways : List Nat) (s : St) : RR := some (.inl (e, m :: ways, s))
def wrk (n : Nat) : St → St
  | (a, b, c, d, e, f, g, h, w) => (a, b, c, d, e, f, g, h, w + n)
def stpR (m : Nat) (ways : List Nat) (f : St → RR) : St → RR
  | (a, b) => if a + 1 ≤ 300 then f (a + 1, b) else err BUDGET m ways (a + 1, b)
/-- value of an expression of a mark -/
def valR (H : Hs) (El : Vl × Vl × Vl) (S : List Nat) (p m : Nat) (ways : List Nat) (s : St) (f : Vl → St → RR) : RR := match whl S p with
  | .inl _ => none
  | .inr (_, x) => match s with
    | (a, b, o, R, q) => match x (H.2.1, El) R with
      | .inl e => err e m ways s
      | .inr (v, R) => f v (a, b, o, R, q)
def escC (sfe : Bool) (w c : Nat) : List Nat :=
  if w = 1 then (if lod c then [c] else [])
  else if w = 2 then (if c = 38 then [38, 97, 59] else if c = 34 then [38, 113, 59] else [c])
  else if sfe then [c] else if c = 38 then [38, 97, 59] else if c = 60 then [38, 108, 59] else if c = 62 then [38, 103, 59] else [c]
def esc (v : Vl) (w : Nat) : List Nat := ((said v).map (escC (sf v) w)).flatten
/-- a template and those above; or the error and the template at which it is -/
def rowE (H : Hs) : Nat → List Nat → (Nat × Nat) ⊕ List Nat
  | 0, _ => .inl (0, 0)
  | n + 1, row =>
    let last := row.getLastD 0
    let a := abv (tmp H last).1
    if a = NONE then .inr row else if 4 < row.length then .inl (DEEP, last) else if hasT H a then rowE H n (row ++ [a]) else .inl (LACK, last)
def rowOf (H : Hs) (t : Nat) : (Nat × Nat) ⊕ List Nat := rowE H 8 [t]
/-- the first template of a row from one on with something -/
def ffrom (H : Hs) (row : List Nat) (f : Tb → Nat) : Nat → Nat → Option Nat
  | 0, _ => none
  | n + 1, r => if r < row.length then (if f (tmp H (row.getD r 0)).2 ≠ NONE then some r else ffrom H row f n (r + 1)) else none
def itr {α : Type} (f : Nat → α → St → RR) : Nat → List α → St → RR
  | _, [], s => some (.inr s)
  | k, x :: l, s => rB (f k x s) (itr f (k + 1) l)
def keptOf (K : List Kp) (t f fst : Nat) : Option Kp := K.foldl (fun found k => if k.2.1 = t ∧ k.2.2.1 = f ∧ k.2.2.2.1 = fst then some k else found) none
def lngR (m : Nat) (ways : List Nat) (s : St) : RR := if s.2.2.1.length ≤ 300 then some (.inr s) else err LONG m ways s
/-- where one renders: the row, its template, the block (or NONE), how deep, element, number and given, the ways -/
abbrev Wh := List Nat × Nat × Nat × Nat × (Vl × Vl × Vl) × List Nat
def rs (H : Hs) : Nat → Wh → Nat → Nat → St → RR
  | 0, _, _, _, _ => none
  | n + 1, (row, r, blk, ins, El, ways), b, e, s =>
    let t := row.getD r 0
    let M := tmp H t
    let S := M.1
    let T := M.2
    let here := (row, r, blk, ins, El, ways)
    if b < e then
      (if sg S b ≠ 123 then (match s with
        | (a, w, o, q) => rs H n here (b + 1) e (wrk 1 (a, mvd w (sg S b), (if lo S b then o else o ++ [sg S b]), q)))
      else
        let m := 1000 * t + b
        let c := sg S (b + 1)
        let cl := tcl T b
        let en := ten T b
        let ot := tot T b
        stpR m ways (fun s =>
          if c = 63 then
            valR H El S (b + 2) m ways s fun v s => rB (if isTrue v then rs H n here (cl + 1) (if ot = NONE then en else ot) s else if ot = NONE then some (.inr s) else rs H n here (tcl T ot + 1) en s) (rs H n here (tcl T en + 1) e)
          else if c = 42 then
            valR H El S (b + 2) m ways s fun v s =>
              if kd v = 0 ∨ kd v = 3 then
                rB (itr (fun k x s => stpR m ways (fun s => rs H n (row, r, blk, ins, ((x, []), vNum (k + 1), El.2.2), ways) (cl + 1) (if ot = NONE then en else ot) s) s) 0 v.2 s) fun s =>
                  rB (if v.2 = [] ∧ ot ≠ NONE then rs H n here (tcl T ot + 1) en s else some (.inr s)) (rs H n here (tcl T en + 1) e)
              else err KIND m ways s
          else if c = 35 then
            (let k := sg S (b + 2) - 65
            match ffrom H row (fun T => tbl T k) (row.length + 1) 0 with
            | none => none
            | some r' =>
              let M' := tmp H (row.getD r' 0)
              let f := tbl M'.2 k
              if fts M' (tcl M'.2 f + 1) (ten M'.2 f) s.2.1 then rB (rs H n (row, r', k, ins, El, m :: ways) (tcl M'.2 f + 1) (ten M'.2 f) s) (rs H n here (tcl T en + 1) e) else err MIXED m ways s)
          else if c = 36 then rs H n here (tcl T en + 1) e s
          else if c = 61 then
            (match s with
            | (a, w, o, R, K, rn, ru, nx, wk) =>
              let had := if H.2.2 then keptOf K t b (row.getD 0 0) else none
              match (match had with
                | some k => if k.2.2.2.2.1 = w then some k else none
                | none => none) with
              | some k => rB (lngR m ways (a, w, o ++ k.2.2.2.2.2.1, R ||| k.2.2.2.2.2.2, K, rn, ru + 1, nx, wk)) (rs H n here (tcl T en + 1) e)
              | none => rB (rs H n here (cl + 1) en (a, w, o, 0, K, rn, ru, nx, wk)) fun s1 => match s1 with
                | (a1, w1, o1, R1, K1, rn1, ru1, nx1, wk1) =>
                  let K2 := match had with
                    | some k => K1.filter fun x => x.1 != k.1
                    | none => K1
                  if H.2.2 = true ∧ R1 &&& 256 = 0 then rs H n here (tcl T en + 1) e (a1, w1, o1, R ||| R1, K2 ++ [(nx1, t, b, row.getD 0 0, w, o1.drop o.length, R1)], rn1 + 1, ru1, nx1 + 1, wk1)
                  else rs H n here (tcl T en + 1) e (a1, w1, o1, R ||| R1, K2, rn1, ru1, nx1, wk1))
          else if c = 94 then
            (match ffrom H row (fun T => tbl T blk) (row.length + 1) (r + 1) with
            | none => rs H n here (cl + 1) e s
            | some r' =>
              if ins < 6 then
                (let M' := tmp H (row.getD r' 0)
                let f := tbl M'.2 blk
                if fts M' (tcl M'.2 f + 1) (ten M'.2 f) s.2.1 then rB (rs H n (row, r', blk, ins + 1, El, m :: ways) (tcl M'.2 f + 1) (ten M'.2 f) s) (rs H n here (cl + 1) e) else err MIXED m ways s)
              else err DEEP m ways s)
          else if c = 38 then
            (let k := sg S (b + 2) - 48
            if hasT H k then
              (if ins < 6 then (match rowOf H k with
                | .inl (x, last) => err x (1000 * last) (m :: ways) s
                | .inr row' =>
                  let M' := tmp H (row'.getLastD 0)
                  if fts M' 0 M'.1.length s.2.1 then rB (rs H n (row', row'.length - 1, NONE, ins + 1, El, m :: ways) 0 M'.1.length s) (rs H n here (cl + 1) e) else err MIXED m ways s)
              else err DEEP m ways s)
            else err LACK m ways s)
          else if c = 64 then
            (let k := sg S (b + 2) - 65
            match ffrom H row (fun T => tma T k) (row.length + 1) r with
            | none => err LACK m ways s
            | some r' =>
              (if sg S (b + 3) = 58 then valR H El S (b + 4) m ways s else fun f => f vNo s) fun v s =>
                if ins < 6 then
                  (let M' := tmp H (row.getD r' 0)
                  let f := tma M'.2 k
                  if fts M' (tcl M'.2 f + 1) (ten M'.2 f) s.2.1 then rB (rs H n (row, r', NONE, ins + 1, (vNo, vNo, v), m :: ways) (tcl M'.2 f + 1) (ten M'.2 f) s) (rs H n here (cl + 1) e) else err MIXED m ways s)
                else err DEEP m ways s)
          else if c = 45 then rs H n here (cl + 1) e s
          else valR H El S (b + 1) m ways s fun v s => if kd v = 3 then err KIND m ways s else (match s with
            | (a, w, o, q) => rB (lngR m ways (a, w, o ++ esc v w, q)) (rs H n here (cl + 1) e))) s)
    else some (.inr s)
/-- a whole rendering -/
def rend (H : Hs) (t : Nat) (n : Nat) (s : St) : RR := match rowOf H t with
  | .inl (x, last) => err x (1000 * last) [] s
  | .inr row => rB (rs H n (row, row.length - 1, NONE, 0, (vNo, vNo, vNo), []) 0 (tmp H (row.getLastD 0)).1.length s) (lngR (1000 * t) [])
