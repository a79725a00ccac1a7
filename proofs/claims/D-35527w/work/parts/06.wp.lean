def castY (t c : Nat) : Bool := CASTY.any fun p => Nat.beq p.1 t && Nat.beq p.2 c
def castN (t c : Nat) : Bool := CASTN.any fun p => Nat.beq p.1 t && Nat.beq p.2 c
def asgT (t j : Nat) : Bool := ASGT.any fun p => Nat.beq p.1 t && Nat.beq p.2 j
def fpos (t f : Nat) : Option Nat := match nth FPT t with
  | some l => lkp l f
  | none => none
def fty (f : Nat) : Nat := (nth FTY f).getD 99
def sel (x t : Nat) : Option Nat := match nth SELT x with
  | some l => lkp l t
  | none => none
/-- classes' numbers and slots, array classes' numbers, statics, constants, first new address, cost at the start, the launch -/
abbrev Ev := (Nat → ClassId) × (Nat → Nat → Nat) × (Nat → ClassId) × (Nat → Nat) × (Nat → Nat) × Nat × Nat × Launch
def eC (E : Ev) : Nat → ClassId := E.1
def eI (E : Ev) : Nat → Nat → Nat := E.2.1
def eA (E : Ev) : Nat → ClassId := E.2.2.1
def sa (E : Ev) : Nat → Nat := E.2.2.2.1
def la (E : Ev) : Nat → Nat := E.2.2.2.2.1
def eB (E : Ev) : Nat := E.2.2.2.2.2.1
def eZ (E : Ev) : Nat := E.2.2.2.2.2.2.1
def eL (E : Ev) : Launch := E.2.2.2.2.2.2.2
def svV (E : Ev) (k : Nat) : Value := match nth SVT k with
  | some (some n) => .int (nI n)
  | _ => .ref (sa E k)
/-- the stack trace of a throwable that has none -/
def svN (E : Ev) : Value := if sa E 500 = 0 then .null else .ref (sa E 0)
def thrT (t : Nat) : Bool := Nat.beq t 17 || Nat.beq t 18 || Nat.beq t 36 || Nat.beq t 37 || Nat.beq t 38
section WP
variable (E : Ev) (C : List Ent) (Hd : List (Nat × Nat × Nat × Nat)) (J : Cuts) (K : KSem) (d : Nat) (Q : Post) (X : XPost)
def arr (r : List Ent → LSt) (cs : List Ent) (L : List Sl) (st : List Value) (g : Hp) : Prop := match cs with
  | [] => False
  | e :: cs' => match lkp J e.1 with
    | some I => True ∧ I L st g
    | none => r (e :: cs') L st g
def jmp (r : List Ent → LSt) (t : Nat) (L : List Sl) (st : List Value) (g : Hp) : Prop := arr J r (drp C t) L st g
def hnd (j : Nat → Prop) (x : Prop) (pc t : Nat) : Bool → List (Nat × Nat × Nat × Nat) → Prop
  | pd, [] => cond pd False (True ∧ x)
  | pd, q :: l => cond (Nat.ble q.1 pc && Nat.blt pc q.2.1) (cond (castY t q.2.2.2) (j q.2.2.1) (cond (castN t q.2.2.2) (hnd j x pc t true l) False)) (hnd j x pc t pd l)
def thr (r : List Ent → LSt) (pc : Nat) (L : List Sl) (t a : Nat) (g : Hp) : Prop := hnd (fun h => jmp C J r h L [.ref a] g) (X t a g) pc t false Hd
def onI (L : List Sl) (k : Nat) (f : Int32 → Prop) : Prop := match nth L k with
  | some (some (.inl (.int x))) => f x
  | _ => False
def onA (L : List Sl) (k : Nat) (f : Value → Prop) : Prop := match nth L k with
  | some (some (.inl (.ref a))) => f (.ref a)
  | some (some (.inl .null)) => f .null
  | _ => False
def onL (L : List Sl) (k : Nat) (f : Int64 → Prop) : Prop := match nth L k with
  | some (some (.inr (.long x))) => f x
  | _ => False
/-- a value that came out of a cell, by its form -/
def byV (v : Value) (f : Value → Prop) : Prop := match v with
  | .int x => f (.int x)
  | .long x => f (.long x)
  | .ref a => f (.ref a)
  | .null => f .null
  | _ => False
def hdp : List Ent → (Nat → Prop) → Prop
  | [], _ => False
  | (p, _) :: _, f => f p
def brP : ClassFile.Cond → Int32 → Int32 → (Prop → Prop) → Prop
  | .eq, x, y, f => f (x = y)
  | .ne, x, y, f => f (x ≠ y)
  | .lt, x, y, f => f (x < y)
  | .ge, x, y, f => f (y ≤ x)
  | .gt, x, y, f => f (y < x)
  | .le, x, y, f => f (x ≤ y)
def wcall (r : List Ent → LSt) (pc : Nat) (cs : List Ent) (L : List Sl) (st : List Value) (g : Hp) (m : Nat) (As : List Value) : Prop :=
  hdp cs fun t => short4 st = true ∧ 1 ≤ d ∧ K m As g (d - 1) (fun v g' => match v with
    | none => jmp C J r t L st g'
    | some v => jmp C J r t L (v :: st) g') (fun t a g' => thr C Hd J X r pc L t a g')
/-- one row -/
def wpS (r : List Ent → LSt) (pc : Nat) (i : Instr) (aux : List Nat) (cs : List Ent) (L : List Sl) (st : List Value) (g : Hp) : Prop :=
  match i, aux with
  | .iload _, [k] => onI L k fun x => arr J r cs L (.int x :: st) g
  | .iload_n _, [k] => onI L k fun x => arr J r cs L (.int x :: st) g
  | .aload _, [k] => onA L k fun v => arr J r cs L (v :: st) g
  | .aload_n _, [k] => onA L k fun v => arr J r cs L (v :: st) g
  | .lload _, [k] => onL L k fun x => arr J r cs L (.long x :: st) g
  | .lload_n _, [k] => onL L k fun x => arr J r cs L (.long x :: st) g
  | .istore _, [k] => (match st with
    | .int x :: st => fL (put1 L k (.int x)) fun L => arr J r cs L st g
    | _ => False)
  | .istore_n _, [k] => (match st with
    | .int x :: st => fL (put1 L k (.int x)) fun L => arr J r cs L st g
    | _ => False)
  | .astore _, [k] => (match st with
    | .ref x :: st => fL (put1 L k (.ref x)) fun L => arr J r cs L st g
    | .null :: st => fL (put1 L k .null) fun L => arr J r cs L st g
    | _ => False)
  | .astore_n _, [k] => (match st with
    | .ref x :: st => fL (put1 L k (.ref x)) fun L => arr J r cs L st g
    | .null :: st => fL (put1 L k .null) fun L => arr J r cs L st g
    | _ => False)
  | .lstore _, [k] => (match st with
    | .long x :: st => fL (put2 L k (.long x)) fun L => arr J r cs L st g
    | _ => False)
  | .lstore_n _, [k] => (match st with
    | .long x :: st => fL (put2 L k (.long x)) fun L => arr J r cs L st g
    | _ => False)
  | .iconst _, a => arr J r cs L (.int (cst a) :: st) g
  | .bipush _, a => arr J r cs L (.int (cst a) :: st) g
  | .sipush _, a => arr J r cs L (.int (cst a) :: st) g
  | .lconst _, a => arr J r cs L (.long (cstL a) :: st) g
  | .ldc2_w _, a => arr J r cs L (.long (cstL a) :: st) g
  | .aconst_null, _ => arr J r cs L (.null :: st) g
  | .ldc _, [0, v] => arr J r cs L (.int (nI v) :: st) g
  | .ldc_w _, [0, v] => arr J r cs L (.int (nI v) :: st) g
  | .ldc _, [1, k] => arr J r cs L (.ref (la E k) :: st) g
  | .ldc_w _, [1, k] => arr J r cs L (.ref (la E k) :: st) g
  | .ldc _, [2, k] => arr J r cs L (.ref (la E (1000 + k)) :: st) g
  | .iinc _ _, [k, n] => onI L k fun x => fL (put1 L k (.int (x + nI n))) fun L => arr J r cs L st g
  | .iinc _ _, [k, _, n] => onI L k fun x => fL (put1 L k (.int (x - nI n))) fun L => arr J r cs L st g
  | .dup, _ => (match st with
    | .int x :: st => arr J r cs L (.int x :: .int x :: st) g
    | .ref x :: st => arr J r cs L (.ref x :: .ref x :: st) g
    | .null :: st => arr J r cs L (.null :: .null :: st) g
    | _ => False)
  | .dup_x1, _ => (match st with
    | .int x :: .ref y :: st => arr J r cs L (.int x :: .ref y :: .int x :: st) g
    | .int x :: .int y :: st => arr J r cs L (.int x :: .int y :: .int x :: st) g
    | .ref x :: .ref y :: st => arr J r cs L (.ref x :: .ref y :: .ref x :: st) g
    | .null :: .ref y :: st => arr J r cs L (.null :: .ref y :: .null :: st) g
    | _ => False)
  | .dup2, _ => (match st with
    | .int x :: .ref y :: st => arr J r cs L (.int x :: .ref y :: .int x :: .ref y :: st) g
    | _ => False)
  | .pop, _ => (match st with
    | .int _ :: st => arr J r cs L st g
    | .ref _ :: st => arr J r cs L st g
    | .null :: st => arr J r cs L st g
    | _ => False)
  | .iadd, _ => (match st with
    | .int y :: .int x :: st => arr J r cs L (.int (x + y) :: st) g
    | _ => False)
  | .isub, _ => (match st with
    | .int y :: .int x :: st => arr J r cs L (.int (x - y) :: st) g
    | _ => False)
  | .imul, _ => (match st with
    | .int y :: .int x :: st => arr J r cs L (.int (x * y) :: st) g
    | _ => False)
  | .idiv, _ => (match st with
    | .int y :: .int x :: st => hdp cs fun nq => ¬ y = 0 ∧ jmp C J r nq L (.int (x / y) :: st) g
    | _ => False)
  | .iand, _ => (match st with
    | .int y :: .int x :: st => arr J r cs L (.int (x &&& y) :: st) g
    | _ => False)
  | .ior, _ => (match st with
    | .int y :: .int x :: st => arr J r cs L (.int (x ||| y) :: st) g
    | _ => False)
  | .ixor, _ => (match st with
    | .int y :: .int x :: st => arr J r cs L (.int (x ^^^ y) :: st) g
    | _ => False)
  | .ishl, _ => (match st with
    | .int y :: .int x :: st => arr J r cs L (.int (x <<< (y &&& 31)) :: st) g
    | _ => False)
  | .ishr, _ => (match st with
    | .int y :: .int x :: st => arr J r cs L (.int (x >>> (y &&& 31)) :: st) g
    | _ => False)
  | .iushr, _ => (match st with
    | .int y :: .int x :: st => arr J r cs L (.int ((x.toUInt32 >>> (y.toUInt32 &&& Int32.toUInt32 31)).toInt32) :: st) g
    | _ => False)
  | .ineg, _ => (match st with
    | .int x :: st => arr J r cs L (.int (-x) :: st) g
    | _ => False)
  | .i2c, _ => (match st with
    | .int x :: st => arr J r cs L (.int (x.toUInt32 % 65536).toInt32 :: st) g
    | _ => False)
  | .i2b, _ => (match st with
    | .int x :: st => arr J r cs L (.int x.toInt8.toInt32 :: st) g
    | _ => False)
  | .i2l, _ => (match st with
    | .int x :: st => arr J r cs L (.long x.toInt64 :: st) g
    | _ => False)
  | .l2i, _ => (match st with
    | .long x :: st => arr J r cs L (.int x.toInt32 :: st) g
    | _ => False)
  | .ladd, _ => (match st with
    | .long y :: .long x :: st => arr J r cs L (.long (x + y) :: st) g
    | _ => False)
  | .land, _ => (match st with
    | .long y :: .long x :: st => arr J r cs L (.long (x &&& y) :: st) g
    | _ => False)
  | .lor, _ => (match st with
    | .long y :: .long x :: st => arr J r cs L (.long (x ||| y) :: st) g
    | _ => False)
  | .lxor, _ => (match st with
    | .long y :: .long x :: st => arr J r cs L (.long (x ^^^ y) :: st) g
    | _ => False)
  | .lshl, _ => (match st with
    | .int y :: .long x :: st => arr J r cs L (.long (x <<< (y.toInt64 &&& 63)) :: st) g
    | _ => False)
  | .lushr, _ => (match st with
    | .int y :: .long x :: st => arr J r cs L (.long ((x.toUInt64 >>> (y.toInt64.toUInt64 &&& Int64.toUInt64 63)).toInt64) :: st) g
    | _ => False)
  | .lcmp, _ => (match st with
    | .long y :: .long x :: st => arr J r cs L (.int (lg_cmp x y) :: st) g
    | _ => False)
  | .goto _, [t] => jmp C J r t L st g
  | .ifCond c _, [t] => (match st with
    | .int x :: st => hdp cs fun nq => brP c x (nI 0) fun P => (P → jmp C J r t L st g) ∧ (¬ P → jmp C J r nq L st g)
    | _ => False)
  | .if_icmp c _, [t] => (match st with
    | .int y :: .int x :: st => hdp cs fun nq => brP c x y fun P => (P → jmp C J r t L st g) ∧ (¬ P → jmp C J r nq L st g)
    | _ => False)
  | .if_acmp .eq _, [t] => (match st with
    | .ref y :: .ref x :: st => hdp cs fun nq => (x = y → jmp C J r t L st g) ∧ (¬ x = y → jmp C J r nq L st g)
    | .ref _ :: .null :: st => arr J r cs L st g
    | .null :: .ref _ :: st => arr J r cs L st g
    | .null :: .null :: st => jmp C J r t L st g
    | _ => False)
  | .if_acmp .ne _, [t] => (match st with
    | .ref y :: .ref x :: st => hdp cs fun nq => (x = y → jmp C J r nq L st g) ∧ (¬ x = y → jmp C J r t L st g)
    | .ref _ :: .null :: st => jmp C J r t L st g
    | .null :: .ref _ :: st => jmp C J r t L st g
    | .null :: .null :: st => arr J r cs L st g
    | _ => False)
  | .ifnull _, [t] => (match st with
    | .ref _ :: st => arr J r cs L st g
    | .null :: st => jmp C J r t L st g
    | _ => False)
  | .ifnonnull _, [t] => (match st with
    | .ref _ :: st => jmp C J r t L st g
    | .null :: st => arr J r cs L st g
    | _ => False)
  | .lookupswitch _ _, t :: ps => (match st with
    | .int x :: st => swt (fun t => jmp C J r t L st g) x (jmp C J r t L st g) ps
    | _ => False)
  | .tableswitch _ _ _ _, t :: ps => (match st with
    | .int x :: st => swt (fun t => jmp C J r t L st g) x (jmp C J r t L st g) ps
    | _ => False)
  | .getstatic _, [k] => cond (stUsed k) (byV (svV E k) fun v => arr J r cs L (v :: st) g) (cond (Nat.beq k 0) ((sa E 500 = 0 → arr J r cs L (.null :: st) g) ∧ (¬ sa E 500 = 0 → arr J r cs L (.ref (sa E 0) :: st) g)) (arr J r cs L (.null :: st) g ∧ ∀ a, arr J r cs L (.ref a :: st) g))
  | .getfield _, [f] => (match st with
    | .ref a :: st => hdp cs fun nq => ∃ c, g.2 a = some c ∧ ∃ k, fpos c.1 f = some k ∧ ∃ v, nth c.2.1 k = some v ∧ byV v fun v => jmp C J r nq L (v :: st) g
    | _ => False)
  | .putfield _, [f] => (match st with
    | v :: .ref a :: st => hdp cs fun nq => ∃ t fs w, g.2 a = some (t, fs, some w) ∧ Nat.blt t 39 = true ∧ ∃ k, fpos t f = some k ∧ k < fs.length ∧ fitW (fty f) v ∧ ∀ g', Put g g' a (t, fs.set k v, some w) → jmp C J r nq L st g'
    | _ => False)
  | .new _, [t] => (match nth DFT t with
    | some df => hdp cs fun nq => g.1 + 5 + df.length ≤ LIM ∧ ∀ a, g.2 a = none → ∃ w, ∀ g', New g g' a (t, df, some w) df.length → jmp C J r nq L (.ref a :: st) g'
    | none => False)
  | .newarray _, [t] => (match st with
    | .int x :: st => hdp cs fun nq => ∃ n, x = nI n ∧ n < 2 ^ 26 ∧ g.1 + 5 + n ≤ LIM ∧ ∀ a, g.2 a = none → ∃ w, ∀ g', New g g' a (t, List.replicate n (cond (Nat.beq t 104) (.long (lN 0)) (.int (nI 0))), some w) n → jmp C J r nq L (.ref a :: st) g'
    | _ => False)
  | .anewarray _, [t] => (match st with
    | .int x :: st => hdp cs fun nq => ∃ n, x = nI n ∧ n < 2 ^ 26 ∧ g.1 + 5 + n ≤ LIM ∧ ∀ a, g.2 a = none → ∃ w, ∀ g', New g g' a (t, List.replicate n .null, some w) n → jmp C J r nq L (.ref a :: st) g'
    | _ => False)
  | .arraylength, _ => (match st with
    | .ref a :: st => hdp cs fun nq => ∃ c, g.2 a = some c ∧ 100 ≤ c.1 ∧ c.2.1.length < 2 ^ 31 ∧ jmp C J r nq L (.int (nI c.2.1.length) :: st) g
    | _ => False)
  | .baload, _ => (match st with
    | .int x :: .ref a :: st => hdp cs fun nq => ∃ c, g.2 a = some c ∧ (c.1 = 100 ∨ c.1 = 103) ∧ ∃ i, x = nI i ∧ i < 2 ^ 31 ∧ ∃ y, nth c.2.1 i = some (.int y) ∧ jmp C J r nq L (.int y :: st) g
    | _ => False)
  | .caload, _ => (match st with
    | .int x :: .ref a :: st => hdp cs fun nq => ∃ c, g.2 a = some c ∧ c.1 = 101 ∧ ∃ i, x = nI i ∧ i < 2 ^ 31 ∧ ∃ y, nth c.2.1 i = some (.int y) ∧ jmp C J r nq L (.int y :: st) g
    | _ => False)
  | .iaload, _ => (match st with
    | .int x :: .ref a :: st => hdp cs fun nq => ∃ c, g.2 a = some c ∧ c.1 = 102 ∧ ∃ i, x = nI i ∧ i < 2 ^ 31 ∧ ∃ y, nth c.2.1 i = some (.int y) ∧ jmp C J r nq L (.int y :: st) g
    | _ => False)
  | .laload, _ => (match st with
    | .int x :: .ref a :: st => hdp cs fun nq => ∃ c, g.2 a = some c ∧ c.1 = 104 ∧ ∃ i, x = nI i ∧ i < 2 ^ 31 ∧ ∃ y, nth c.2.1 i = some (.long y) ∧ jmp C J r nq L (.long y :: st) g
    | _ => False)
  | .aaload, _ => (match st with
    | .int x :: .ref a :: st => hdp cs fun nq => ∃ c, g.2 a = some c ∧ 105 ≤ c.1 ∧ ∃ i, x = nI i ∧ i < 2 ^ 31 ∧ ∃ v, nth c.2.1 i = some v ∧ byV v fun v => jmp C J r nq L (v :: st) g
    | _ => False)
  | .bastore, _ => (match st with
    | .int y :: .int x :: .ref a :: st => hdp cs fun nq => ∃ t fs w, g.2 a = some (t, fs, some w) ∧ (t = 100 ∧ Nrw 3 y ∨ t = 103 ∧ Nrw 1 y) ∧ ∃ i, x = nI i ∧ i < 2 ^ 31 ∧ i < fs.length ∧ ∀ g', Put g g' a (t, fs.set i (.int y), some w) → jmp C J r nq L st g'
    | _ => False)
  | .castore, _ => (match st with
    | .int y :: .int x :: .ref a :: st => hdp cs fun nq => ∃ t fs w, g.2 a = some (t, fs, some w) ∧ t = 101 ∧ Nrw 2 y ∧ ∃ i, x = nI i ∧ i < 2 ^ 31 ∧ i < fs.length ∧ ∀ g', Put g g' a (t, fs.set i (.int y), some w) → jmp C J r nq L st g'
    | _ => False)
  | .iastore, _ => (match st with
    | .int y :: .int x :: .ref a :: st => hdp cs fun nq => ∃ t fs w, g.2 a = some (t, fs, some w) ∧ t = 102 ∧ ∃ i, x = nI i ∧ i < 2 ^ 31 ∧ i < fs.length ∧ ∀ g', Put g g' a (t, fs.set i (.int y), some w) → jmp C J r nq L st g'
    | _ => False)
  | .lastore, _ => (match st with
    | .long y :: .int x :: .ref a :: st => hdp cs fun nq => ∃ t fs w, g.2 a = some (t, fs, some w) ∧ t = 104 ∧ ∃ i, x = nI i ∧ i < 2 ^ 31 ∧ i < fs.length ∧ ∀ g', Put g g' a (t, fs.set i (.long y), some w) → jmp C J r nq L st g'
    | _ => False)
  | .aastore, _ => (match st with
    | .null :: .int x :: .ref a :: st => hdp cs fun nq => ∃ t fs w, g.2 a = some (t, fs, some w) ∧ 105 ≤ t ∧ ∃ i, x = nI i ∧ i < 2 ^ 31 ∧ i < fs.length ∧ ∀ g', Put g g' a (t, fs.set i .null, some w) → jmp C J r nq L st g'
    | .ref y :: .int x :: .ref a :: st => hdp cs fun nq => ∃ t fs w, g.2 a = some (t, fs, some w) ∧ 105 ≤ t ∧ (∃ c, g.2 y = some c ∧ asgT c.1 t = true) ∧ ∃ i, x = nI i ∧ i < 2 ^ 31 ∧ i < fs.length ∧ ∀ g', Put g g' a (t, fs.set i (.ref y), some w) → jmp C J r nq L st g'
    | _ => False)
  | .checkcast _, [c] => (match st with
    | .ref a :: st => hdp cs fun nq => ∃ x, g.2 a = some x ∧ castY x.1 c = true ∧ jmp C J r nq L (.ref a :: st) g
    | .null :: st => arr J r cs L (.null :: st) g
    | _ => False)
  | .instanceof _, [c] => (match st with
    | .ref a :: st => hdp cs fun nq => ∃ x, g.2 a = some x ∧ ((castY x.1 c = true ∧ jmp C J r nq L (.int (nI 1) :: st) g) ∨ (castN x.1 c = true ∧ jmp C J r nq L (.int (nI 0) :: st) g))
    | .null :: st => arr J r cs L (.int (nI 0) :: st) g
    | _ => False)
  | .invokestatic _, [m, n] => popN n [] st fun As st => wcall C Hd J K d X r pc cs L st g m As
  | .invokespecial _, [m, n] => popN n [] st fun As st => (match st with
    | .ref b :: st => (∃ c, g.2 b = some c ∧ c.1 < 40) ∧ wcall C Hd J K d X r pc cs L st g m (.ref b :: As)
    | _ => False)
  | .invokevirtual _, [x, n] => popN n [] st fun As st => (match st with
    | .ref b :: st => ∃ c, g.2 b = some c ∧ ∃ m, sel x c.1 = some m ∧ wcall C Hd J K d X r pc cs L st g m (.ref b :: As)
    | _ => False)
  | .invokeinterface _ _, [x, n] => popN n [] st fun As st => (match st with
    | .ref b :: st => ∃ c, g.2 b = some c ∧ ∃ m, sel x c.1 = some m ∧ wcall C Hd J K d X r pc cs L st g m (.ref b :: As)
    | _ => False)
  | .invokespecial _, [_] => (match st with
    | .ref _ :: st => hdp cs fun nq => short4 st = true ∧ 1 ≤ d ∧ jmp C J r nq L st g
    | _ => False)
  | .invokestatic _, [_] => (match st with
    | .int n :: .int q :: .ref b :: .int k :: .ref a :: st => hdp cs fun nq => short4 st = true ∧ 2 ≤ d ∧ ∃ t fs w gs w', g.2 a = some (t, fs, w) ∧ g.2 b = some (t, gs, some w') ∧ 100 ≤ t ∧ t ≤ 105 ∧ ∃ n' q' k', n = nI n' ∧ q = nI q' ∧ k = nI k' ∧ n' < 2 ^ 31 ∧ q' < 2 ^ 31 ∧ k' < 2 ^ 31 ∧ k' + n' ≤ fs.length ∧ q' + n' ≤ gs.length ∧ ∀ g', Put g g' b (t, cpyL fs k' gs q' n', some w') → jmp C J r nq L st g'
    | _ => False)
  | .invokevirtual _, [_] => (match st with
    | .ref a :: st => hdp cs fun nq => short4 st = true ∧ 1 ≤ d ∧ ∃ fs w, g.2 a = some (100, fs, w) ∧ g.1 + 5 + fs.length ≤ LIM ∧ ∀ b, g.2 b = none → ∃ w, ∀ g', New g g' b (100, fs, some w) fs.length → jmp C J r nq L (.ref b :: st) g'
    | _ => False)
  | .invokevirtual _, [_, _, _] => (match st with
    | .ref a :: st => hdp cs fun nq => short4 st = true ∧ 1 ≤ d ∧ ∃ fs w, g.2 a = some (105, fs, w) ∧ jmp C J r nq L (.ref (la E 1000) :: st) g
    | _ => False)
  | .invokevirtual _, [_, _, _, _] => (match st with
    | .ref a :: st => hdp cs fun nq => short4 st = true ∧ 4 ≤ d ∧ ∃ t fs w, g.2 a = some (t, fs, some w) ∧ thrT t = true ∧ nth fs 1 = some (svN E) ∧ nth fs 4 = some .null ∧ jmp C J r nq L (.ref a :: st) g
    | _ => False)
  | .invokeinterface _ _, [_, _, _] => (match st with
    | .ref a :: st => hdp cs fun nq => short4 st = true ∧ 1 ≤ d ∧ ∃ fs w, g.2 a = some (28, fs, w) ∧ jmp C J r nq L (.ref (la E 1001) :: st) g
    | _ => False)
  | .athrow, _ => (match st with
    | .ref a :: _ => ∃ t fs w, g.2 a = some (t, fs, some w) ∧ t < 40 ∧ thr C Hd J X r pc L t a g
    | _ => False)
  | .ireturn, [k] => (match st with
    | [.int x] => Nrw k x ∧ Q (some (.int x)) g
    | _ => False)
  | .lreturn, _ => (match st with
    | [.long x] => True ∧ Q (some (.long x)) g
    | _ => False)
  | .areturn, _ => (match st with
    | [.ref x] => True ∧ Q (some (.ref x)) g
    | [.null] => True ∧ Q (some .null) g
    | _ => False)
  | .return_, _ => (match st with
    | [] => True ∧ Q none g
    | _ => False)
  | _, _ => False
def wp : Nat → List Ent → LSt
  | 0 => fun _ _ _ _ => False
  | n + 1 => fun cs L st g => match cs with
    | [] => False
    | (pc, i, _, aux) :: cs => wpS E C Hd J K d Q X (wp n) pc i aux cs L st g
end WP
