def nextOK (p : Nat) : List Ent → Prop
  | [] => True
  | e :: _ => e.1 = p
section ROWS
variable {E : Ev} {p : Program} {l : Launch} {e : Env} {R : Room} {s : State} {m : MethodId} {args : Array Value} {below : List Frame} {meth : Method} {c : Code} {own : String} {cc : ByteArray} {nL d u0 : Nat} {ini : Bool} {Qf : State → Prop}
variable {C : List Ent} {Hd : List (Nat × Nat × Nat × Nat)} {J : Cuts} {K : KSem} {Q : Post} {X : XPost} {r : List Ent → LSt} {pc : Nat} {aux : List Nat} {cs : List Ent} {L : List Sl} {st : List Value} {g : Hp}
def Zs (E : Ev) (p : Program) (l : Launch) (e : Env) (R : Room) (s : State) (m : MethodId) (args : Array Value) (below : List Frame) (meth : Method) (c : Code) (nL : Nat) (Qf : State → Prop) (pc : Nat) (L : List Sl) (st : List Value) (g : Hp) : Prop :=
  ∀ (H : Heap) (locs : List Loc) (ls : Array Slot), Rel E g H → va_S (fun a => eB E ≤ a) s.heap H locs → lrel ls nL L → W p l e R s m args below meth c H locs (H.size - s.heap.size) (hsz H - hsz s.heap) Qf (F0 m pc ls st)
theorem Zs.pure {pc' : Nat} {st' : List Value} (h : ∀ (H : Heap) (locs : List Loc) (ls : Array Slot) (cells slots : Nat), lrel ls nL L → W p l e R s m args below meth c H locs cells slots Qf (F0 m pc' ls st') → W p l e R s m args below meth c H locs cells slots Qf (F0 m pc ls st)) (k : Zs E p l e R s m args below meth c nL Qf pc' L st' g) : Zs E p l e R s m args below meth c nL Qf pc L st g :=
  fun H locs ls hR hS hl => h H locs ls _ _ hl (k H locs ls hR hS hl)
theorem Zs.loc {pc' : Nat} {st' : List Value} {L' : List Sl} (h : ∀ (H : Heap) (locs : List Loc) (ls : Array Slot) (cells slots : Nat), lrel ls nL L → (∀ ls', lrel ls' nL L' → W p l e R s m args below meth c H locs cells slots Qf (F0 m pc' ls' st')) → W p l e R s m args below meth c H locs cells slots Qf (F0 m pc ls st)) (k : Zs E p l e R s m args below meth c nL Qf pc' L' st' g) : Zs E p l e R s m args below meth c nL Qf pc L st g :=
  fun H locs ls hR hS hl => h H locs ls _ _ hl fun ls' hl' => k H locs ls' hR hS hl'
def lkPairs (pc : Int) : List (Int × Int) → List Nat → Bool
  | [], [] => true
  | (k, o) :: ps, j :: t :: l => decide (k = (j : Int)) && decide (j < 2147483648) && decide (pc + o = (t : Int)) && lkPairs pc ps l
  | _, _ => false
def lkTab (pc lo : Int) : List Int → List Nat → Bool
  | [], [] => true
  | o :: ps, j :: t :: l => decide (lo = (j : Int)) && decide (j < 2147483648) && decide (pc + o = (t : Int)) && lkTab pc (lo + 1) ps l
  | _, _ => false
/-- the rows that link nothing: the operand list says what the row says -/
def lkB (nL pc : Nat) (i : Instr) (len : Nat) (aux : List Nat) : Bool := match i, aux with
  | .iload k, [j] => decide (k = j) && decide (len = 2)
  | .iload_n k, [j] => decide (k.val = j) && decide (len = 1)
  | .aload k, [j] => decide (k = j) && decide (len = 2)
  | .aload_n k, [j] => decide (k.val = j) && decide (len = 1)
  | .lload k, [j] => decide (k = j) && decide (len = 2)
  | .lload_n k, [j] => decide (k.val = j) && decide (len = 1)
  | .istore k, [j] => decide (k = j) && decide (len = 2) && decide (k < nL)
  | .istore_n k, [j] => decide (k.val = j) && decide (len = 1) && decide (k.val < nL)
  | .astore k, [j] => decide (k = j) && decide (len = 2) && decide (k < nL)
  | .astore_n k, [j] => decide (k.val = j) && decide (len = 1) && decide (k.val < nL)
  | .lstore k, [j] => decide (k = j) && decide (len = 2) && decide (k + 1 < nL)
  | .lstore_n k, [j] => decide (k.val = j) && decide (len = 1) && decide (k.val + 1 < nL)
  | .iconst n, a => decide (Int32.ofInt n = cst a) && decide (len = 1)
  | .bipush n, a => decide ((Int8.ofInt n).toInt32 = cst a) && decide (len = 2)
  | .sipush n, a => decide ((Int16.ofInt n).toInt32 = cst a) && decide (len = 3)
  | .lconst n, a => decide (Int64.ofNat n.val = cstL a) && decide (len = 1)
  | .iinc k n, [j, v] => decide (k = j) && decide (len = 3) && decide (k < nL) && decide (Int32.ofInt n = nI v)
  | .iinc k n, [j, _, v] => decide (k = j) && decide (len = 3) && decide (k < nL) && decide (Int32.ofInt n = -nI v)
  | .goto o, [t] => decide ((pc : Int) + o = (t : Int)) && decide (len = 3)
  | .ifCond _ o, [t] => decide ((pc : Int) + o = (t : Int)) && decide (len = 3)
  | .if_icmp _ o, [t] => decide ((pc : Int) + o = (t : Int)) && decide (len = 3)
  | .if_acmp _ o, [t] => decide ((pc : Int) + o = (t : Int)) && decide (len = 3)
  | .ifnull o, [t] => decide ((pc : Int) + o = (t : Int)) && decide (len = 3)
  | .ifnonnull o, [t] => decide ((pc : Int) + o = (t : Int)) && decide (len = 3)
  | .lookupswitch o ps, t :: l => decide ((pc : Int) + o = (t : Int)) && lkPairs pc ps.toList l && ((ps.toList.zip (ps.toList.drop 1)).all fun (a, next) => a.1 < next.1)
  | .tableswitch o lo hi offs, t :: l => decide ((pc : Int) + o = (t : Int)) && lkTab pc lo offs.toList l && decide (lo + offs.size = hi + 1)

  | .aconst_null, _ => decide (len = 1)
  | .dup, _ => decide (len = 1)
  | .dup_x1, _ => decide (len = 1)
  | .dup2, _ => decide (len = 1)
  | .pop, _ => decide (len = 1)
  | .iadd, _ => decide (len = 1)
  | .isub, _ => decide (len = 1)
  | .imul, _ => decide (len = 1)
  | .idiv, _ => decide (len = 1)
  | .iand, _ => decide (len = 1)
  | .ior, _ => decide (len = 1)
  | .ixor, _ => decide (len = 1)
  | .ishl, _ => decide (len = 1)
  | .ishr, _ => decide (len = 1)
  | .iushr, _ => decide (len = 1)
  | .ineg, _ => decide (len = 1)
  | .i2c, _ => decide (len = 1)
  | .i2b, _ => decide (len = 1)
  | .i2l, _ => decide (len = 1)
  | .l2i, _ => decide (len = 1)
  | .ladd, _ => decide (len = 1)
  | .land, _ => decide (len = 1)
  | .lor, _ => decide (len = 1)
  | .lxor, _ => decide (len = 1)
  | .lshl, _ => decide (len = 1)
  | .lushr, _ => decide (len = 1)
  | .lcmp, _ => decide (len = 1)
  | .arraylength, _ => decide (len = 1)
  | .baload, _ => decide (len = 1)
  | .caload, _ => decide (len = 1)
  | .iaload, _ => decide (len = 1)
  | .laload, _ => decide (len = 1)
  | .aaload, _ => decide (len = 1)
  | .bastore, _ => decide (len = 1)
  | .castore, _ => decide (len = 1)
  | .iastore, _ => decide (len = 1)
  | .lastore, _ => decide (len = 1)
  | .aastore, _ => decide (len = 1)
  | .athrow, _ => decide (len = 1)
  | _, _ => false
theorem s_iadd  (hx : p.tables.exec = Jvm.exec) (hb : c.code = cc) (hd : decode cc pc = .ok (.iadd, 1)) (A : ∀ L st g, arr J r cs L st g → Zs E p l e R s m args below meth c nL Qf (pc + 1) L st g) (h : wpS E C Hd J K d Q X r pc (.iadd) aux cs L st g) : Zs E p l e R s m args below meth c nL Qf pc L st g := by
  dsimp only [wpS] at h
  split at h
  · exact Zs.pure (fun _ _ _ _ _ _ => lv_iadd hx hb hd) (A _ _ _ h)
  · exact h.elim
theorem s_isub  (hx : p.tables.exec = Jvm.exec) (hb : c.code = cc) (hd : decode cc pc = .ok (.isub, 1)) (A : ∀ L st g, arr J r cs L st g → Zs E p l e R s m args below meth c nL Qf (pc + 1) L st g) (h : wpS E C Hd J K d Q X r pc (.isub) aux cs L st g) : Zs E p l e R s m args below meth c nL Qf pc L st g := by
  dsimp only [wpS] at h
  split at h
  · exact Zs.pure (fun _ _ _ _ _ _ => lv_isub hx hb hd) (A _ _ _ h)
  · exact h.elim
theorem s_imul  (hx : p.tables.exec = Jvm.exec) (hb : c.code = cc) (hd : decode cc pc = .ok (.imul, 1)) (A : ∀ L st g, arr J r cs L st g → Zs E p l e R s m args below meth c nL Qf (pc + 1) L st g) (h : wpS E C Hd J K d Q X r pc (.imul) aux cs L st g) : Zs E p l e R s m args below meth c nL Qf pc L st g := by
  dsimp only [wpS] at h
  split at h
  · exact Zs.pure (fun _ _ _ _ _ _ => lv_imul hx hb hd) (A _ _ _ h)
  · exact h.elim
theorem s_iand  (hx : p.tables.exec = Jvm.exec) (hb : c.code = cc) (hd : decode cc pc = .ok (.iand, 1)) (A : ∀ L st g, arr J r cs L st g → Zs E p l e R s m args below meth c nL Qf (pc + 1) L st g) (h : wpS E C Hd J K d Q X r pc (.iand) aux cs L st g) : Zs E p l e R s m args below meth c nL Qf pc L st g := by
  dsimp only [wpS] at h
  split at h
  · exact Zs.pure (fun _ _ _ _ _ _ => lv_iand hx hb hd) (A _ _ _ h)
  · exact h.elim
theorem s_ior  (hx : p.tables.exec = Jvm.exec) (hb : c.code = cc) (hd : decode cc pc = .ok (.ior, 1)) (A : ∀ L st g, arr J r cs L st g → Zs E p l e R s m args below meth c nL Qf (pc + 1) L st g) (h : wpS E C Hd J K d Q X r pc (.ior) aux cs L st g) : Zs E p l e R s m args below meth c nL Qf pc L st g := by
  dsimp only [wpS] at h
  split at h
  · exact Zs.pure (fun _ _ _ _ _ _ => lv_ior hx hb hd) (A _ _ _ h)
  · exact h.elim
theorem s_ixor  (hx : p.tables.exec = Jvm.exec) (hb : c.code = cc) (hd : decode cc pc = .ok (.ixor, 1)) (A : ∀ L st g, arr J r cs L st g → Zs E p l e R s m args below meth c nL Qf (pc + 1) L st g) (h : wpS E C Hd J K d Q X r pc (.ixor) aux cs L st g) : Zs E p l e R s m args below meth c nL Qf pc L st g := by
  dsimp only [wpS] at h
  split at h
  · exact Zs.pure (fun _ _ _ _ _ _ => lv_ixor hx hb hd) (A _ _ _ h)
  · exact h.elim
theorem s_ishl  (hx : p.tables.exec = Jvm.exec) (hb : c.code = cc) (hd : decode cc pc = .ok (.ishl, 1)) (A : ∀ L st g, arr J r cs L st g → Zs E p l e R s m args below meth c nL Qf (pc + 1) L st g) (h : wpS E C Hd J K d Q X r pc (.ishl) aux cs L st g) : Zs E p l e R s m args below meth c nL Qf pc L st g := by
  dsimp only [wpS] at h
  split at h
  · exact Zs.pure (fun _ _ _ _ _ _ => lv_ishl hx hb hd) (A _ _ _ h)
  · exact h.elim
theorem s_ishr  (hx : p.tables.exec = Jvm.exec) (hb : c.code = cc) (hd : decode cc pc = .ok (.ishr, 1)) (A : ∀ L st g, arr J r cs L st g → Zs E p l e R s m args below meth c nL Qf (pc + 1) L st g) (h : wpS E C Hd J K d Q X r pc (.ishr) aux cs L st g) : Zs E p l e R s m args below meth c nL Qf pc L st g := by
  dsimp only [wpS] at h
  split at h
  · exact Zs.pure (fun _ _ _ _ _ _ => lv_ishr hx hb hd) (A _ _ _ h)
  · exact h.elim
theorem s_ladd  (hx : p.tables.exec = Jvm.exec) (hb : c.code = cc) (hd : decode cc pc = .ok (.ladd, 1)) (A : ∀ L st g, arr J r cs L st g → Zs E p l e R s m args below meth c nL Qf (pc + 1) L st g) (h : wpS E C Hd J K d Q X r pc (.ladd) aux cs L st g) : Zs E p l e R s m args below meth c nL Qf pc L st g := by
  dsimp only [wpS] at h
  split at h
  · exact Zs.pure (fun _ _ _ _ _ _ => lv_ladd hx hb hd) (A _ _ _ h)
  · exact h.elim
theorem s_land  (hx : p.tables.exec = Jvm.exec) (hb : c.code = cc) (hd : decode cc pc = .ok (.land, 1)) (A : ∀ L st g, arr J r cs L st g → Zs E p l e R s m args below meth c nL Qf (pc + 1) L st g) (h : wpS E C Hd J K d Q X r pc (.land) aux cs L st g) : Zs E p l e R s m args below meth c nL Qf pc L st g := by
  dsimp only [wpS] at h
  split at h
  · exact Zs.pure (fun _ _ _ _ _ _ => lv_land hx hb hd) (A _ _ _ h)
  · exact h.elim
theorem s_lor  (hx : p.tables.exec = Jvm.exec) (hb : c.code = cc) (hd : decode cc pc = .ok (.lor, 1)) (A : ∀ L st g, arr J r cs L st g → Zs E p l e R s m args below meth c nL Qf (pc + 1) L st g) (h : wpS E C Hd J K d Q X r pc (.lor) aux cs L st g) : Zs E p l e R s m args below meth c nL Qf pc L st g := by
  dsimp only [wpS] at h
  split at h
  · exact Zs.pure (fun _ _ _ _ _ _ => lv_lor hx hb hd) (A _ _ _ h)
  · exact h.elim
theorem s_lxor  (hx : p.tables.exec = Jvm.exec) (hb : c.code = cc) (hd : decode cc pc = .ok (.lxor, 1)) (A : ∀ L st g, arr J r cs L st g → Zs E p l e R s m args below meth c nL Qf (pc + 1) L st g) (h : wpS E C Hd J K d Q X r pc (.lxor) aux cs L st g) : Zs E p l e R s m args below meth c nL Qf pc L st g := by
  dsimp only [wpS] at h
  split at h
  · exact Zs.pure (fun _ _ _ _ _ _ => lv_lxor hx hb hd) (A _ _ _ h)
  · exact h.elim
theorem s_iushr  (hx : p.tables.exec = Jvm.exec) (hb : c.code = cc) (hd : decode cc pc = .ok (.iushr, 1)) (A : ∀ L st g, arr J r cs L st g → Zs E p l e R s m args below meth c nL Qf (pc + 1) L st g) (h : wpS E C Hd J K d Q X r pc (.iushr) aux cs L st g) : Zs E p l e R s m args below meth c nL Qf pc L st g := by
  dsimp only [wpS] at h
  split at h
  · exact Zs.pure (fun _ _ _ _ _ _ => lv_iushr hx hb hd rfl) (A _ _ _ h)
  · exact h.elim
theorem s_lshl  (hx : p.tables.exec = Jvm.exec) (hb : c.code = cc) (hd : decode cc pc = .ok (.lshl, 1)) (A : ∀ L st g, arr J r cs L st g → Zs E p l e R s m args below meth c nL Qf (pc + 1) L st g) (h : wpS E C Hd J K d Q X r pc (.lshl) aux cs L st g) : Zs E p l e R s m args below meth c nL Qf pc L st g := by
  dsimp only [wpS] at h
  split at h
  · exact Zs.pure (fun _ _ _ _ _ _ => lv_lshl hx hb hd rfl) (A _ _ _ h)
  · exact h.elim
theorem s_lushr  (hx : p.tables.exec = Jvm.exec) (hb : c.code = cc) (hd : decode cc pc = .ok (.lushr, 1)) (A : ∀ L st g, arr J r cs L st g → Zs E p l e R s m args below meth c nL Qf (pc + 1) L st g) (h : wpS E C Hd J K d Q X r pc (.lushr) aux cs L st g) : Zs E p l e R s m args below meth c nL Qf pc L st g := by
  dsimp only [wpS] at h
  split at h
  · exact Zs.pure (fun _ _ _ _ _ _ => lv_lushr hx hb hd rfl) (A _ _ _ h)
  · exact h.elim
theorem s_i2c  (hx : p.tables.exec = Jvm.exec) (hb : c.code = cc) (hd : decode cc pc = .ok (.i2c, 1)) (A : ∀ L st g, arr J r cs L st g → Zs E p l e R s m args below meth c nL Qf (pc + 1) L st g) (h : wpS E C Hd J K d Q X r pc (.i2c) aux cs L st g) : Zs E p l e R s m args below meth c nL Qf pc L st g := by
  dsimp only [wpS] at h
  split at h
  · exact Zs.pure (fun _ _ _ _ _ _ => lv_i2c hx hb hd rfl) (A _ _ _ h)
  · exact h.elim
theorem s_i2b  (hx : p.tables.exec = Jvm.exec) (hb : c.code = cc) (hd : decode cc pc = .ok (.i2b, 1)) (A : ∀ L st g, arr J r cs L st g → Zs E p l e R s m args below meth c nL Qf (pc + 1) L st g) (h : wpS E C Hd J K d Q X r pc (.i2b) aux cs L st g) : Zs E p l e R s m args below meth c nL Qf pc L st g := by
  dsimp only [wpS] at h
  split at h
  · exact Zs.pure (fun _ _ _ _ _ _ => lv_i2b hx hb hd rfl) (A _ _ _ h)
  · exact h.elim
theorem s_i2l  (hx : p.tables.exec = Jvm.exec) (hb : c.code = cc) (hd : decode cc pc = .ok (.i2l, 1)) (A : ∀ L st g, arr J r cs L st g → Zs E p l e R s m args below meth c nL Qf (pc + 1) L st g) (h : wpS E C Hd J K d Q X r pc (.i2l) aux cs L st g) : Zs E p l e R s m args below meth c nL Qf pc L st g := by
  dsimp only [wpS] at h
  split at h
  · exact Zs.pure (fun _ _ _ _ _ _ => lv_i2l hx hb hd rfl) (A _ _ _ h)
  · exact h.elim
theorem s_l2i  (hx : p.tables.exec = Jvm.exec) (hb : c.code = cc) (hd : decode cc pc = .ok (.l2i, 1)) (A : ∀ L st g, arr J r cs L st g → Zs E p l e R s m args below meth c nL Qf (pc + 1) L st g) (h : wpS E C Hd J K d Q X r pc (.l2i) aux cs L st g) : Zs E p l e R s m args below meth c nL Qf pc L st g := by
  dsimp only [wpS] at h
  split at h
  · exact Zs.pure (fun _ _ _ _ _ _ => lv_l2i hx hb hd rfl) (A _ _ _ h)
  · exact h.elim
theorem s_ineg  (hx : p.tables.exec = Jvm.exec) (hb : c.code = cc) (hd : decode cc pc = .ok (.ineg, 1)) (A : ∀ L st g, arr J r cs L st g → Zs E p l e R s m args below meth c nL Qf (pc + 1) L st g) (h : wpS E C Hd J K d Q X r pc (.ineg) aux cs L st g) : Zs E p l e R s m args below meth c nL Qf pc L st g := by
  dsimp only [wpS] at h
  split at h
  · exact Zs.pure (fun _ _ _ _ _ _ => lv_ineg hx hb hd) (A _ _ _ h)
  · exact h.elim
theorem s_lcmp  (hx : p.tables.exec = Jvm.exec) (hb : c.code = cc) (hd : decode cc pc = .ok (.lcmp, 1)) (A : ∀ L st g, arr J r cs L st g → Zs E p l e R s m args below meth c nL Qf (pc + 1) L st g) (h : wpS E C Hd J K d Q X r pc (.lcmp) aux cs L st g) : Zs E p l e R s m args below meth c nL Qf pc L st g := by
  dsimp only [wpS] at h
  split at h
  · exact Zs.pure (fun _ _ _ _ _ _ => W.lcmp hx hb hd) (A _ _ _ h)
  · exact h.elim
theorem s_aconst_null  (hx : p.tables.exec = Jvm.exec) (hb : c.code = cc) (hd : decode cc pc = .ok (.aconst_null, 1)) (A : ∀ L st g, arr J r cs L st g → Zs E p l e R s m args below meth c nL Qf (pc + 1) L st g) (h : wpS E C Hd J K d Q X r pc (.aconst_null) aux cs L st g) : Zs E p l e R s m args below meth c nL Qf pc L st g := by
  dsimp only [wpS] at h
  exact Zs.pure (fun _ _ _ _ _ _ => lv_null hx hb hd) (A _ _ _ h)
theorem s_dup  (hx : p.tables.exec = Jvm.exec) (hb : c.code = cc) (hd : decode cc pc = .ok (.dup, 1)) (A : ∀ L st g, arr J r cs L st g → Zs E p l e R s m args below meth c nL Qf (pc + 1) L st g) (h : wpS E C Hd J K d Q X r pc (.dup) aux cs L st g) : Zs E p l e R s m args below meth c nL Qf pc L st g := by
  dsimp only [wpS] at h
  split at h
  · exact Zs.pure (fun _ _ _ _ _ _ => lv_dup hx hb hd rfl) (A _ _ _ h)
  · exact Zs.pure (fun _ _ _ _ _ _ => lv_dup hx hb hd rfl) (A _ _ _ h)
  · exact Zs.pure (fun _ _ _ _ _ _ => lv_dup hx hb hd rfl) (A _ _ _ h)
  · exact h.elim
theorem s_dup_x1  (hx : p.tables.exec = Jvm.exec) (hb : c.code = cc) (hd : decode cc pc = .ok (.dup_x1, 1)) (A : ∀ L st g, arr J r cs L st g → Zs E p l e R s m args below meth c nL Qf (pc + 1) L st g) (h : wpS E C Hd J K d Q X r pc (.dup_x1) aux cs L st g) : Zs E p l e R s m args below meth c nL Qf pc L st g := by
  dsimp only [wpS] at h
  split at h
  · exact Zs.pure (fun _ _ _ _ _ _ => lv_dup_x1 hx hb hd rfl rfl) (A _ _ _ h)
  · exact Zs.pure (fun _ _ _ _ _ _ => lv_dup_x1 hx hb hd rfl rfl) (A _ _ _ h)
  · exact Zs.pure (fun _ _ _ _ _ _ => lv_dup_x1 hx hb hd rfl rfl) (A _ _ _ h)
  · exact Zs.pure (fun _ _ _ _ _ _ => lv_dup_x1 hx hb hd rfl rfl) (A _ _ _ h)
  · exact h.elim
theorem s_dup2  (hx : p.tables.exec = Jvm.exec) (hb : c.code = cc) (hd : decode cc pc = .ok (.dup2, 1)) (A : ∀ L st g, arr J r cs L st g → Zs E p l e R s m args below meth c nL Qf (pc + 1) L st g) (h : wpS E C Hd J K d Q X r pc (.dup2) aux cs L st g) : Zs E p l e R s m args below meth c nL Qf pc L st g := by
  dsimp only [wpS] at h
  split at h
  · exact Zs.pure (fun _ _ _ _ _ _ => lv_dup2_11 hx hb hd rfl rfl) (A _ _ _ h)
  · exact h.elim
theorem s_pop  (hx : p.tables.exec = Jvm.exec) (hb : c.code = cc) (hd : decode cc pc = .ok (.pop, 1)) (A : ∀ L st g, arr J r cs L st g → Zs E p l e R s m args below meth c nL Qf (pc + 1) L st g) (h : wpS E C Hd J K d Q X r pc (.pop) aux cs L st g) : Zs E p l e R s m args below meth c nL Qf pc L st g := by
  dsimp only [wpS] at h
  split at h
  · exact Zs.pure (fun _ _ _ _ _ _ => lv_pop hx hb hd rfl) (A _ _ _ h)
  · exact Zs.pure (fun _ _ _ _ _ _ => lv_pop hx hb hd rfl) (A _ _ _ h)
  · exact Zs.pure (fun _ _ _ _ _ _ => lv_pop hx hb hd rfl) (A _ _ _ h)
  · exact h.elim
theorem s_idiv  (hx : p.tables.exec = Jvm.exec) (hb : c.code = cc) (hd : decode cc pc = .ok (.idiv, 1)) (hn : nextOK (pc + 1) cs) (JM : ∀ t L st g, jmp C J r t L st g → Zs E p l e R s m args below meth c nL Qf t L st g) (h : wpS E C Hd J K d Q X r pc (.idiv) aux cs L st g) : Zs E p l e R s m args below meth c nL Qf pc L st g := by
  dsimp only [wpS] at h
  split at h
  · cases cs with
    | nil => exact h.elim
    | cons e9 cs =>
      obtain ⟨p9, i9⟩ := e9
      have hn : p9 = pc + 1 := hn
      subst hn
      obtain ⟨h1, h2⟩ := h
      exact Zs.pure (fun _ _ _ _ _ _ => lv_idiv hx hb hd h1) (JM _ _ _ _ h2)
  · exact h.elim
theorem s_iload {k : Nat} (hx : p.tables.exec = Jvm.exec) (hb : c.code = cc) (hd : decode cc pc = .ok (.iload k, 2)) (A : ∀ L st g, arr J r cs L st g → Zs E p l e R s m args below meth c nL Qf (pc + 2) L st g) (h : wpS E C Hd J K d Q X r pc (.iload k) [k] cs L st g) : Zs E p l e R s m args below meth c nL Qf pc L st g := by
  dsimp only [wpS] at h
  unfold onI at h
  split at h
  · rename_i x hk
    exact Zs.pure (fun _ _ _ _ _ hl => lv_iload hx hb hd (hl.at hk)) (A _ _ _ h)
  · exact h.elim
theorem s_iload_n {k : Fin 4} (hx : p.tables.exec = Jvm.exec) (hb : c.code = cc) (hd : decode cc pc = .ok (.iload_n k, 1)) (A : ∀ L st g, arr J r cs L st g → Zs E p l e R s m args below meth c nL Qf (pc + 1) L st g) (h : wpS E C Hd J K d Q X r pc (.iload_n k) [k.val] cs L st g) : Zs E p l e R s m args below meth c nL Qf pc L st g := by
  dsimp only [wpS] at h
  unfold onI at h
  split at h
  · rename_i x hk
    exact Zs.pure (fun _ _ _ _ _ hl => lv_iload_n hx hb hd rfl (hl.at hk)) (A _ _ _ h)
  · exact h.elim
theorem s_lload {k : Nat} (hx : p.tables.exec = Jvm.exec) (hb : c.code = cc) (hd : decode cc pc = .ok (.lload k, 2)) (A : ∀ L st g, arr J r cs L st g → Zs E p l e R s m args below meth c nL Qf (pc + 2) L st g) (h : wpS E C Hd J K d Q X r pc (.lload k) [k] cs L st g) : Zs E p l e R s m args below meth c nL Qf pc L st g := by
  dsimp only [wpS] at h
  unfold onL at h
  split at h
  · rename_i x hk
    exact Zs.pure (fun _ _ _ _ _ hl => lv_lload hx hb hd (hl.at hk)) (A _ _ _ h)
  · exact h.elim
theorem s_lload_n {k : Fin 4} (hx : p.tables.exec = Jvm.exec) (hb : c.code = cc) (hd : decode cc pc = .ok (.lload_n k, 1)) (A : ∀ L st g, arr J r cs L st g → Zs E p l e R s m args below meth c nL Qf (pc + 1) L st g) (h : wpS E C Hd J K d Q X r pc (.lload_n k) [k.val] cs L st g) : Zs E p l e R s m args below meth c nL Qf pc L st g := by
  dsimp only [wpS] at h
  unfold onL at h
  split at h
  · rename_i x hk
    exact Zs.pure (fun _ _ _ _ _ hl => lv_lload_n hx hb hd rfl (hl.at hk)) (A _ _ _ h)
  · exact h.elim
theorem s_aload {k : Nat} (hx : p.tables.exec = Jvm.exec) (hb : c.code = cc) (hd : decode cc pc = .ok (.aload k, 2)) (A : ∀ L st g, arr J r cs L st g → Zs E p l e R s m args below meth c nL Qf (pc + 2) L st g) (h : wpS E C Hd J K d Q X r pc (.aload k) [k] cs L st g) : Zs E p l e R s m args below meth c nL Qf pc L st g := by
  dsimp only [wpS] at h
  unfold onA at h
  split at h
  · rename_i x hk
    exact Zs.pure (fun _ _ _ _ _ hl => lv_aload hx hb hd (hl.at hk)) (A _ _ _ h)
  · rename_i hk
    exact Zs.pure (fun _ _ _ _ _ hl => lv_aloadN hx hb hd (hl.at hk)) (A _ _ _ h)
  · exact h.elim
theorem s_aload_n {k : Fin 4} (hx : p.tables.exec = Jvm.exec) (hb : c.code = cc) (hd : decode cc pc = .ok (.aload_n k, 1)) (A : ∀ L st g, arr J r cs L st g → Zs E p l e R s m args below meth c nL Qf (pc + 1) L st g) (h : wpS E C Hd J K d Q X r pc (.aload_n k) [k.val] cs L st g) : Zs E p l e R s m args below meth c nL Qf pc L st g := by
  dsimp only [wpS] at h
  unfold onA at h
  split at h
  · rename_i x hk
    exact Zs.pure (fun _ _ _ _ _ hl => lv_aload_n hx hb hd rfl (hl.at hk)) (A _ _ _ h)
  · rename_i hk
    exact Zs.pure (fun _ _ _ _ _ hl => lv_aload_nN hx hb hd rfl (hl.at hk)) (A _ _ _ h)
  · exact h.elim
theorem s_istore {k : Nat} (hx : p.tables.exec = Jvm.exec) (hb : c.code = cc) (hd : decode cc pc = .ok (.istore k, 2)) (hn : k < nL) (A : ∀ L st g, arr J r cs L st g → Zs E p l e R s m args below meth c nL Qf (pc + 2) L st g) (h : wpS E C Hd J K d Q X r pc (.istore k) [k] cs L st g) : Zs E p l e R s m args below meth c nL Qf pc L st g := by
  dsimp only [wpS] at h
  split at h
  · rw [fL_eq] at h
    exact Zs.loc (fun _ _ _ _ _ hl kk => lv_istore hx hb hd hl.has hn rfl fun ls' h' => kk ls' (hl.put1 rfl h')) (A _ _ _ h)
  · exact h.elim
theorem s_istore_n {k : Fin 4} (hx : p.tables.exec = Jvm.exec) (hb : c.code = cc) (hd : decode cc pc = .ok (.istore_n k, 1)) (hn : k.val < nL) (A : ∀ L st g, arr J r cs L st g → Zs E p l e R s m args below meth c nL Qf (pc + 1) L st g) (h : wpS E C Hd J K d Q X r pc (.istore_n k) [k.val] cs L st g) : Zs E p l e R s m args below meth c nL Qf pc L st g := by
  dsimp only [wpS] at h
  split at h
  · rw [fL_eq] at h
    exact Zs.loc (fun _ _ _ _ _ hl kk => lv_istore_n hx hb hd rfl hl.has hn rfl fun ls' h' => kk ls' (hl.put1 rfl h')) (A _ _ _ h)
  · exact h.elim
theorem s_lstore {k : Nat} (hx : p.tables.exec = Jvm.exec) (hb : c.code = cc) (hd : decode cc pc = .ok (.lstore k, 2)) (hn : k + 1 < nL) (A : ∀ L st g, arr J r cs L st g → Zs E p l e R s m args below meth c nL Qf (pc + 2) L st g) (h : wpS E C Hd J K d Q X r pc (.lstore k) [k] cs L st g) : Zs E p l e R s m args below meth c nL Qf pc L st g := by
  dsimp only [wpS] at h
  split at h
  · rw [fL_eq] at h
    exact Zs.loc (fun _ _ _ _ _ hl kk => lv_lstore hx hb hd hl.has hn rfl fun ls' h' => kk ls' (hl.put2 rfl h')) (A _ _ _ h)
  · exact h.elim
theorem s_lstore_n {k : Fin 4} (hx : p.tables.exec = Jvm.exec) (hb : c.code = cc) (hd : decode cc pc = .ok (.lstore_n k, 1)) (hn : k.val + 1 < nL) (A : ∀ L st g, arr J r cs L st g → Zs E p l e R s m args below meth c nL Qf (pc + 1) L st g) (h : wpS E C Hd J K d Q X r pc (.lstore_n k) [k.val] cs L st g) : Zs E p l e R s m args below meth c nL Qf pc L st g := by
  dsimp only [wpS] at h
  split at h
  · rw [fL_eq] at h
    exact Zs.loc (fun _ _ _ _ _ hl kk => lv_lstore_n hx hb hd rfl hl.has hn rfl fun ls' h' => kk ls' (hl.put2 rfl h')) (A _ _ _ h)
  · exact h.elim
theorem s_astore {k : Nat} (hx : p.tables.exec = Jvm.exec) (hb : c.code = cc) (hd : decode cc pc = .ok (.astore k, 2)) (hn : k < nL) (A : ∀ L st g, arr J r cs L st g → Zs E p l e R s m args below meth c nL Qf (pc + 2) L st g) (h : wpS E C Hd J K d Q X r pc (.astore k) [k] cs L st g) : Zs E p l e R s m args below meth c nL Qf pc L st g := by
  dsimp only [wpS] at h
  split at h
  · rw [fL_eq] at h
    exact Zs.loc (fun _ _ _ _ _ hl kk => lv_astore hx hb hd hl.has hn rfl fun ls' h' => kk ls' (hl.put1 rfl h')) (A _ _ _ h)
  · rw [fL_eq] at h
    exact Zs.loc (fun _ _ _ _ _ hl kk => lv_astoreN hx hb hd hl.has hn rfl fun ls' h' => kk ls' (hl.put1 rfl h')) (A _ _ _ h)
  · exact h.elim
theorem s_astore_n {k : Fin 4} (hx : p.tables.exec = Jvm.exec) (hb : c.code = cc) (hd : decode cc pc = .ok (.astore_n k, 1)) (hn : k.val < nL) (A : ∀ L st g, arr J r cs L st g → Zs E p l e R s m args below meth c nL Qf (pc + 1) L st g) (h : wpS E C Hd J K d Q X r pc (.astore_n k) [k.val] cs L st g) : Zs E p l e R s m args below meth c nL Qf pc L st g := by
  dsimp only [wpS] at h
  split at h
  · rw [fL_eq] at h
    exact Zs.loc (fun _ _ _ _ _ hl kk => lv_astore_n hx hb hd rfl hl.has hn rfl fun ls' h' => kk ls' (hl.put1 rfl h')) (A _ _ _ h)
  · rw [fL_eq] at h
    exact Zs.loc (fun _ _ _ _ _ hl kk => lv_astore_nN hx hb hd rfl hl.has hn rfl fun ls' h' => kk ls' (hl.put1 rfl h')) (A _ _ _ h)
  · exact h.elim
theorem s_iconst {n : Int} (hx : p.tables.exec = Jvm.exec) (hb : c.code = cc) (hd : decode cc pc = .ok (.iconst n, 1)) (hv : Int32.ofInt n = cst aux) (A : ∀ L st g, arr J r cs L st g → Zs E p l e R s m args below meth c nL Qf (pc + 1) L st g) (h : wpS E C Hd J K d Q X r pc (.iconst n) aux cs L st g) : Zs E p l e R s m args below meth c nL Qf pc L st g := by
  dsimp only [wpS] at h
  exact Zs.pure (fun _ _ _ _ _ _ => lv_iconst hx hb hd hv) (A _ _ _ h)
theorem s_bipush {n : Int} (hx : p.tables.exec = Jvm.exec) (hb : c.code = cc) (hd : decode cc pc = .ok (.bipush n, 2)) (hv : (Int8.ofInt n).toInt32 = cst aux) (A : ∀ L st g, arr J r cs L st g → Zs E p l e R s m args below meth c nL Qf (pc + 2) L st g) (h : wpS E C Hd J K d Q X r pc (.bipush n) aux cs L st g) : Zs E p l e R s m args below meth c nL Qf pc L st g := by
  dsimp only [wpS] at h
  exact Zs.pure (fun _ _ _ _ _ _ => lv_bipush hx hb hd hv) (A _ _ _ h)
theorem s_sipush {n : Int} (hx : p.tables.exec = Jvm.exec) (hb : c.code = cc) (hd : decode cc pc = .ok (.sipush n, 3)) (hv : (Int16.ofInt n).toInt32 = cst aux) (A : ∀ L st g, arr J r cs L st g → Zs E p l e R s m args below meth c nL Qf (pc + 3) L st g) (h : wpS E C Hd J K d Q X r pc (.sipush n) aux cs L st g) : Zs E p l e R s m args below meth c nL Qf pc L st g := by
  dsimp only [wpS] at h
  exact Zs.pure (fun _ _ _ _ _ _ => lv_sipush hx hb hd hv) (A _ _ _ h)
theorem s_lconst {n : Fin 2} (hx : p.tables.exec = Jvm.exec) (hb : c.code = cc) (hd : decode cc pc = .ok (.lconst n, 1)) (hv : Int64.ofNat n.val = cstL aux) (A : ∀ L st g, arr J r cs L st g → Zs E p l e R s m args below meth c nL Qf (pc + 1) L st g) (h : wpS E C Hd J K d Q X r pc (.lconst n) aux cs L st g) : Zs E p l e R s m args below meth c nL Qf pc L st g := by
  dsimp only [wpS] at h
  exact Zs.pure (fun _ _ _ _ _ _ => lv_lconst hx hb hd hv) (A _ _ _ h)
theorem s_iinc {k v : Nat} {n : Int} (hx : p.tables.exec = Jvm.exec) (hb : c.code = cc) (hd : decode cc pc = .ok (.iinc k n, 3)) (hn : k < nL) (hv : Int32.ofInt n = nI v) (A : ∀ L st g, arr J r cs L st g → Zs E p l e R s m args below meth c nL Qf (pc + 3) L st g) (h : wpS E C Hd J K d Q X r pc (.iinc k n) [k, v] cs L st g) : Zs E p l e R s m args below meth c nL Qf pc L st g := by
  dsimp only [wpS] at h
  unfold onI at h
  split at h
  · rename_i x hk
    rw [fL_eq] at h
    refine Zs.loc (fun _ _ _ _ _ hl kk => ?_) (A _ _ _ h)
    have hm : (k, Value.int x) ∈ asc L := mem_asc (x := .inl (.int x)) (by rw [← nth_eq]; exact hk)
    obtain ⟨j, hj⟩ := List.getElem?_of_mem hm
    exact lv_iinc hx hb hd hl.has hj (by rw [hv]) hn rfl fun ls' h' => kk ls' (hl.put1 rfl h')
  · exact h.elim
theorem s_iincM {k v z : Nat} {n : Int} (hx : p.tables.exec = Jvm.exec) (hb : c.code = cc) (hd : decode cc pc = .ok (.iinc k n, 3)) (hn : k < nL) (hv : Int32.ofInt n = -nI v) (A : ∀ L st g, arr J r cs L st g → Zs E p l e R s m args below meth c nL Qf (pc + 3) L st g) (h : wpS E C Hd J K d Q X r pc (.iinc k n) [k, z, v] cs L st g) : Zs E p l e R s m args below meth c nL Qf pc L st g := by
  dsimp only [wpS] at h
  unfold onI at h
  split at h
  · rename_i x hk
    rw [fL_eq] at h
    refine Zs.loc (fun _ _ _ _ _ hl kk => ?_) (A _ _ _ h)
    have hm : (k, Value.int x) ∈ asc L := mem_asc (x := .inl (.int x)) (by rw [← nth_eq]; exact hk)
    obtain ⟨j, hj⟩ := List.getElem?_of_mem hm
    exact lv_iinc hx hb hd hl.has hj (by rw [hv]; exact (Int32.sub_eq_add_neg ..).symm) hn rfl fun ls' h' => kk ls' (hl.put1 rfl h')
  · exact h.elim
theorem s_goto {o : Int} {t : Nat} (hx : p.tables.exec = Jvm.exec) (hb : c.code = cc) (hd : decode cc pc = .ok (.goto o, 3)) (ht : (pc : Int) + o = (t : Int)) (JM : ∀ t L st g, jmp C J r t L st g → Zs E p l e R s m args below meth c nL Qf t L st g) (h : wpS E C Hd J K d Q X r pc (.goto o) [t] cs L st g) : Zs E p l e R s m args below meth c nL Qf pc L st g := by
  dsimp only [wpS] at h
  exact Zs.pure (fun _ _ _ _ _ _ => lv_goto hx hb hd ht) (JM _ _ _ _ h)
theorem Zs.br {pc1 pc2 : Nat} {st' : List Value} {P : Prop} (h : ∀ (H : Heap) (locs : List Loc) (ls : Array Slot) (cells slots : Nat), (P → W p l e R s m args below meth c H locs cells slots Qf (F0 m pc1 ls st')) → (¬ P → W p l e R s m args below meth c H locs cells slots Qf (F0 m pc2 ls st')) → W p l e R s m args below meth c H locs cells slots Qf (F0 m pc ls st)) (k1 : P → Zs E p l e R s m args below meth c nL Qf pc1 L st' g) (k2 : ¬ P → Zs E p l e R s m args below meth c nL Qf pc2 L st' g) : Zs E p l e R s m args below meth c nL Qf pc L st g :=
  fun H locs ls hR hS hl => h H locs ls _ _ (fun q => k1 q H locs ls hR hS hl) (fun q => k2 q H locs ls hR hS hl)
theorem s_ifCond {q : ClassFile.Cond} {o : Int} {t : Nat} (hx : p.tables.exec = Jvm.exec) (hb : c.code = cc) (hd : decode cc pc = .ok (.ifCond q o, 3)) (ht : (pc : Int) + o = (t : Int)) (hn : nextOK (pc + 3) cs) (JM : ∀ t L st g, jmp C J r t L st g → Zs E p l e R s m args below meth c nL Qf t L st g) (h : wpS E C Hd J K d Q X r pc (.ifCond q o) [t] cs L st g) : Zs E p l e R s m args below meth c nL Qf pc L st g := by
  dsimp only [wpS] at h
  split at h
  · cases cs with
    | nil => exact h.elim
    | cons e9 cs =>
      obtain ⟨p9, i9⟩ := e9
      have hn : p9 = pc + 3 := hn
      subst hn
      cases q
      all_goals
        obtain ⟨h1, h2⟩ := h
      · exact Zs.br (fun _ _ _ _ _ => lv_if_eq hx hb hd ht) (fun q => JM _ _ _ _ (h1 q)) (fun q => JM _ _ _ _ (h2 q))
      · exact Zs.br (fun _ _ _ _ _ a b => lv_if_ne hx hb hd ht a (fun q => b (fun z => z q))) (fun q => JM _ _ _ _ (h1 q)) (fun q => JM _ _ _ _ (h2 q))
      · exact Zs.br (fun _ _ _ _ _ => lv_if_lt hx hb hd ht) (fun q => JM _ _ _ _ (h1 q)) (fun q => JM _ _ _ _ (h2 q))
      · exact Zs.br (fun _ _ _ _ _ => lv_if_ge hx hb hd ht) (fun q => JM _ _ _ _ (h1 q)) (fun q => JM _ _ _ _ (h2 q))
      · exact Zs.br (fun _ _ _ _ _ => lv_if_gt hx hb hd ht) (fun q => JM _ _ _ _ (h1 q)) (fun q => JM _ _ _ _ (h2 q))
      · exact Zs.br (fun _ _ _ _ _ => lv_if_le hx hb hd ht) (fun q => JM _ _ _ _ (h1 q)) (fun q => JM _ _ _ _ (h2 q))
  · exact h.elim
theorem s_if_icmp {q : ClassFile.Cond} {o : Int} {t : Nat} (hx : p.tables.exec = Jvm.exec) (hb : c.code = cc) (hd : decode cc pc = .ok (.if_icmp q o, 3)) (ht : (pc : Int) + o = (t : Int)) (hn : nextOK (pc + 3) cs) (JM : ∀ t L st g, jmp C J r t L st g → Zs E p l e R s m args below meth c nL Qf t L st g) (h : wpS E C Hd J K d Q X r pc (.if_icmp q o) [t] cs L st g) : Zs E p l e R s m args below meth c nL Qf pc L st g := by
  dsimp only [wpS] at h
  split at h
  · cases cs with
    | nil => exact h.elim
    | cons e9 cs =>
      obtain ⟨p9, i9⟩ := e9
      have hn : p9 = pc + 3 := hn
      subst hn
      cases q
      all_goals
        obtain ⟨h1, h2⟩ := h
      · exact Zs.br (fun _ _ _ _ _ => lv_icmp_eq hx hb hd ht) (fun q => JM _ _ _ _ (h1 q)) (fun q => JM _ _ _ _ (h2 q))
      · exact Zs.br (fun _ _ _ _ _ a b => lv_icmp_ne hx hb hd ht a (fun q => b (fun z => z q))) (fun q => JM _ _ _ _ (h1 q)) (fun q => JM _ _ _ _ (h2 q))
      · exact Zs.br (fun _ _ _ _ _ => lv_icmp_lt hx hb hd ht) (fun q => JM _ _ _ _ (h1 q)) (fun q => JM _ _ _ _ (h2 q))
      · exact Zs.br (fun _ _ _ _ _ => lv_icmp_ge hx hb hd ht) (fun q => JM _ _ _ _ (h1 q)) (fun q => JM _ _ _ _ (h2 q))
      · exact Zs.br (fun _ _ _ _ _ => lv_icmp_gt hx hb hd ht) (fun q => JM _ _ _ _ (h1 q)) (fun q => JM _ _ _ _ (h2 q))
      · exact Zs.br (fun _ _ _ _ _ => lv_icmp_le hx hb hd ht) (fun q => JM _ _ _ _ (h1 q)) (fun q => JM _ _ _ _ (h2 q))
  · exact h.elim
theorem s_acmp_eq {o : Int} {t : Nat} (hx : p.tables.exec = Jvm.exec) (hb : c.code = cc) (hd : decode cc pc = .ok (.if_acmp .eq o, 3)) (ht : (pc : Int) + o = (t : Int)) (hn : nextOK (pc + 3) cs) (A : ∀ L st g, arr J r cs L st g → Zs E p l e R s m args below meth c nL Qf (pc + 3) L st g) (JM : ∀ t L st g, jmp C J r t L st g → Zs E p l e R s m args below meth c nL Qf t L st g) (h : wpS E C Hd J K d Q X r pc (.if_acmp .eq o) [t] cs L st g) : Zs E p l e R s m args below meth c nL Qf pc L st g := by
  dsimp only [wpS] at h
  split at h
  · cases cs with
    | nil => exact h.elim
    | cons e9 cs =>
      obtain ⟨p9, i9⟩ := e9
      have hn : p9 = pc + 3 := hn
      subst hn
      obtain ⟨h1, h2⟩ := h
      exact Zs.br (fun _ _ _ _ _ a b => lv_acmp_eq (rx := some _) (ry := some _) hx hb hd ht (fun q => a (Option.some.inj q)) (fun q => b (fun z => q (congrArg some z)))) (fun q => JM _ _ _ _ (h1 q)) (fun q => JM _ _ _ _ (h2 q))
  · exact Zs.pure (fun _ _ _ _ _ _ k => lv_acmp_eq (rx := none) (ry := some _) hx hb hd ht (fun q => by cases q) (fun _ => k)) (A _ _ _ h)
  · exact Zs.pure (fun _ _ _ _ _ _ k => lv_acmp_eq (rx := some _) (ry := none) hx hb hd ht (fun q => by cases q) (fun _ => k)) (A _ _ _ h)
  · exact Zs.pure (fun _ _ _ _ _ _ k => lv_acmp_eq (rx := none) (ry := none) hx hb hd ht (fun _ => k) (fun q => absurd rfl q)) (JM _ _ _ _ h)
  · exact h.elim
theorem s_acmp_ne {o : Int} {t : Nat} (hx : p.tables.exec = Jvm.exec) (hb : c.code = cc) (hd : decode cc pc = .ok (.if_acmp .ne o, 3)) (ht : (pc : Int) + o = (t : Int)) (hn : nextOK (pc + 3) cs) (A : ∀ L st g, arr J r cs L st g → Zs E p l e R s m args below meth c nL Qf (pc + 3) L st g) (JM : ∀ t L st g, jmp C J r t L st g → Zs E p l e R s m args below meth c nL Qf t L st g) (h : wpS E C Hd J K d Q X r pc (.if_acmp .ne o) [t] cs L st g) : Zs E p l e R s m args below meth c nL Qf pc L st g := by
  dsimp only [wpS] at h
  split at h
  · cases cs with
    | nil => exact h.elim
    | cons e9 cs =>
      obtain ⟨p9, i9⟩ := e9
      have hn : p9 = pc + 3 := hn
      subst hn
      obtain ⟨h1, h2⟩ := h
      exact Zs.br (fun _ _ _ _ _ a b => lv_acmp_ne (rx := some _) (ry := some _) hx hb hd ht (fun q => b (fun z => q (congrArg some z))) (fun q => a (Option.some.inj q))) (fun q => JM _ _ _ _ (h1 q)) (fun q => JM _ _ _ _ (h2 q))
  · exact Zs.pure (fun _ _ _ _ _ _ k => lv_acmp_ne (rx := none) (ry := some _) hx hb hd ht (fun _ => k) (fun q => by cases q)) (JM _ _ _ _ h)
  · exact Zs.pure (fun _ _ _ _ _ _ k => lv_acmp_ne (rx := some _) (ry := none) hx hb hd ht (fun _ => k) (fun q => by cases q)) (JM _ _ _ _ h)
  · exact Zs.pure (fun _ _ _ _ _ _ k => lv_acmp_ne (rx := none) (ry := none) hx hb hd ht (fun q => absurd rfl q) (fun _ => k)) (A _ _ _ h)
  · exact h.elim
theorem s_ifnull {o : Int} {t : Nat} (hx : p.tables.exec = Jvm.exec) (hb : c.code = cc) (hd : decode cc pc = .ok (.ifnull o, 3)) (ht : (pc : Int) + o = (t : Int)) (A : ∀ L st g, arr J r cs L st g → Zs E p l e R s m args below meth c nL Qf (pc + 3) L st g) (JM : ∀ t L st g, jmp C J r t L st g → Zs E p l e R s m args below meth c nL Qf t L st g) (h : wpS E C Hd J K d Q X r pc (.ifnull o) [t] cs L st g) : Zs E p l e R s m args below meth c nL Qf pc L st g := by
  dsimp only [wpS] at h
  split at h
  · exact Zs.pure (fun _ _ _ _ _ _ => lv_ifnull hx hb hd) (A _ _ _ h)
  · exact Zs.pure (fun _ _ _ _ _ _ => lv_ifnullN hx hb hd ht) (JM _ _ _ _ h)
  · exact h.elim
theorem s_ifnonnull {o : Int} {t : Nat} (hx : p.tables.exec = Jvm.exec) (hb : c.code = cc) (hd : decode cc pc = .ok (.ifnonnull o, 3)) (ht : (pc : Int) + o = (t : Int)) (A : ∀ L st g, arr J r cs L st g → Zs E p l e R s m args below meth c nL Qf (pc + 3) L st g) (JM : ∀ t L st g, jmp C J r t L st g → Zs E p l e R s m args below meth c nL Qf t L st g) (h : wpS E C Hd J K d Q X r pc (.ifnonnull o) [t] cs L st g) : Zs E p l e R s m args below meth c nL Qf pc L st g := by
  dsimp only [wpS] at h
  split at h
  · exact Zs.pure (fun _ _ _ _ _ _ => lv_ifnonnull hx hb hd ht) (JM _ _ _ _ h)
  · exact Zs.pure (fun _ _ _ _ _ _ => lv_ifnonnullN hx hb hd) (A _ _ _ h)
  · exact h.elim
end ROWS
