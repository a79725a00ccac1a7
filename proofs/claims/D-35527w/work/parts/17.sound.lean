/-! ONE SOUNDNESS THEOREM: what wp says of a code list holds of the machine -/
def kindR : Nat → FieldType → Bool
  | 0, .int => true
  | 1, .boolean => true
  | 2, .char => true
  | 3, .byte => true
  | _, _ => false
def LKw (own : String) (ini : Bool) (ret : Option FieldType) (i : Instr) (len : Nat) (aux : List Nat) : Prop := match i, aux with
  | .ldc k, [0, v] => len = 2 ∧ Jvm.Cond.constant own k (nI v) ∈ lw_all
  | .ldc_w k, [0, v] => len = 3 ∧ Jvm.Cond.constant own k (nI v) ∈ lw_all
  | .ldc k, [1, j] => len = 2 ∧ ∃ tx, nth STRL j = some (own, k, tx)
  | .ldc k, [2, j] => len = 2 ∧ ∃ n, nth MIRL j = some n ∧ Jvm.Cond.classLink own k n ∈ lw_all
  | .ldc2_w k, a => len = 3 ∧ Jvm.Cond.constantLong own k (cstL a) ∈ lw_all
  | .getfield k, [f] => len = 3 ∧ ∃ q, nth FLL f = some q ∧ fldL own k q
  | .putfield k, [f] => len = 3 ∧ ∃ q, nth FLL f = some q ∧ fldL own k q ∧ (nth FFN f = some true → ini = true ∧ q.1 = own ∧ Jvm.Cond.fieldLink own k q.1 q.2.1 q.2.2 ∈ lw_all)
  | .getstatic k, [j] => len = 3 ∧ ∃ q, nth STL j = some q ∧ fldL own k q
  | .new k, [t] => len = 3 ∧ t < 39 ∧ ∃ r, CL[t]? = some r ∧ Jvm.Cond.classLink own k r.1 ∈ lw_all ∧ Jvm.Cond.instantiable r.1 r.2.2 ∈ lw_all ∧ Jvm.Cond.initialized r.1 ∈ lw_all
  | .newarray ty, [t] => len = 2 ∧ 100 ≤ t ∧ t ≤ 104 ∧ ATL[t - 100]? = some (newarray.typeOf ty) ∧ Jvm.Cond.arrayClass (newarray.typeOf ty) ∈ lw_all
  | .anewarray k, [t] => len = 3 ∧ 105 ≤ t ∧ ∃ C, ATL[t - 100]? = some (.object C) ∧ Jvm.Cond.classLink own k C ∈ lw_all ∧ C ∈ AOC
  | .checkcast k, [c] => len = 3 ∧ ∃ n, CNL[c]? = some n ∧ Jvm.Cond.classLink own k n ∈ lw_all
  | .instanceof k, [c] => len = 3 ∧ ∃ n, CNL[c]? = some n ∧ Jvm.Cond.classLink own k n ∈ lw_all
  | .invokestatic k, [_] => len = 3 ∧ Jvm.Cond.methodLink own k arraycopyName ∈ lw_all
  | .invokespecial k, [_] => len = 3 ∧ Jvm.Cond.methodLink own k objectInit ∈ lw_all
  | .invokevirtual k, [_] => len = 3 ∧ Jvm.Cond.methodLink own k ⟨"[B", "clone", "()Ljava/lang/Object;"⟩ ∈ lw_all
  | .invokevirtual k, [_, _, _] => len = 3 ∧ Jvm.Cond.methodLink own k ⟨"java/lang/Object", "getClass", "()Ljava/lang/Class;"⟩ ∈ lw_all
  | .invokevirtual k, [_, _, _, _] => len = 3 ∧ Jvm.Cond.methodLink own k Bundle.tFill ∈ lw_all
  | .invokeinterface k _, [_, _, _] => len = 5 ∧ Jvm.Cond.methodLink own k ⟨"java/util/Collection", "getClass", "()Ljava/lang/Class;"⟩ ∈ lw_all
  | .invokestatic k, [y, n] => SITE own (.invokestatic k) len y n 0
  | .invokespecial k, [y, n] => SITE own (.invokespecial k) len y n 1
  | .invokevirtual k, [x, n] => ∀ t y, sel x t = some y → SITE own (.invokevirtual k) len y n (t + 2)
  | .invokeinterface k j, [x, n] => ∀ t y, sel x t = some y → SITE own (.invokeinterface k j) len y n (t + 2)
  | .ireturn, [k] => len = 1 ∧ ∃ ty, ret = some ty ∧ kindR k ty = true
  | .lreturn, _ => len = 1 ∧ ret = some .long
  | .areturn, _ => len = 1 ∧ ((∃ n, ret = some (.object n)) ∨ ∃ t, ret = some (.array t))
  | .return_, _ => len = 1 ∧ ret = none
  | _, _ => False
/-- rows that no proof goes through -/
def dead (i : Instr) (aux : List Nat) : Bool := match i, aux with
  | .getfield _, [] => true
  | .putfield _, [] => true
  | .getstatic _, [] => true
  | .new _, [] => true
  | .anewarray _, [] => true
  | .checkcast _, [] => true
  | .instanceof _, [] => true
  | .ldc _, [] => true
  | .ldc_w _, [] => true
  | .ldc_w _, [2, _] => true
  | .invokestatic _, [] => true
  | .invokespecial _, [] => true
  | .invokevirtual _, [] => true
  | .invokeinterface _ _, [] => true
  | .invokedynamic _, _ => true
  | _, _ => false
def LK (own : String) (ini : Bool) (ret : Option FieldType) (nL pc : Nat) (i : Instr) (len : Nat) (aux : List Nat) : Prop := lkB nL pc i len aux = true ∨ LKw own ini ret i len aux ∨ dead i aux = true
def CodeOK (own : String) (ini : Bool) (ret : Option FieldType) (nL : Nat) (cc : ByteArray) : List Ent → Prop
  | [] => True
  | (pc, i, len, aux) :: es => (decode cc pc = .ok (i, len) ∧ LK own ini ret nL pc i len aux ∧ nextOK (pc + len) es) ∧ CodeOK own ini ret nL cc es

theorem drp_ok {own : String} {ini : Bool} {ret : Option FieldType} {nL : Nat} {cc : ByteArray} {C : List Ent} (h : CodeOK own ini ret nL cc C) (t : Nat) : CodeOK own ini ret nL cc (drp C t) ∧ nextOK t (drp C t) := by
  induction C with
  | nil => exact ⟨trivial, trivial⟩
  | cons e C ih =>
    obtain ⟨pc, i, len, aux⟩ := e
    obtain ⟨h1, h2⟩ := h
    show CodeOK own ini ret nL cc (cond (Nat.beq pc t) ((pc, i, len, aux) :: C) (drp C t)) ∧ nextOK t (cond (Nat.beq pc t) ((pc, i, len, aux) :: C) (drp C t))
    cases e : Nat.beq pc t with
    | true => exact ⟨⟨h1, h2⟩, Nat.eq_of_beq_eq_true e⟩
    | false => exact ih h2
theorem and_dec {a b : Bool} (h : (a && b) = true) : a = true ∧ b = true := Bool.and_eq_true_iff.mp h
theorem and_dec2 {P Q : Prop} [Decidable P] [Decidable Q] (h : (decide P && decide Q) = true) : P ∧ Q := ⟨of_decide_eq_true (and_dec h).1, of_decide_eq_true (and_dec h).2⟩
theorem and_dec3 {P Q R : Prop} [Decidable P] [Decidable Q] [Decidable R] (h : (decide P && decide Q && decide R) = true) : P ∧ Q ∧ R := ⟨(and_dec2 (and_dec h).1).1, (and_dec2 (and_dec h).1).2, of_decide_eq_true (and_dec h).2⟩
theorem and_dec4 {P Q R S : Prop} [Decidable P] [Decidable Q] [Decidable R] [Decidable S] (h : (decide P && decide Q && decide R && decide S) = true) : P ∧ Q ∧ R ∧ S := ⟨(and_dec3 (and_dec h).1).1, (and_dec3 (and_dec h).1).2.1, (and_dec3 (and_dec h).1).2.2, of_decide_eq_true (and_dec h).2⟩
theorem sel_lt {x t y : Nat} (h : sel x t = some y) : t < 40 := by
  have h5 : SELT.all (fun l => l.all fun p => Nat.blt p.1 40) = true := by decide +kernel
  unfold sel at h
  cases hl : nth SELT x with
  | none => rw [hl] at h; cases h
  | some l =>
    rw [hl] at h
    rw [nth_eq] at hl
    have h6 := List.all_eq_true.mp (List.all_eq_true.mp h5 l (List.mem_of_getElem? hl)) _ (lkp_mem h)
    simpa using h6
section SOUND
variable {E : Ev} {p : Program} {l : Launch} {e : Env} {R : Room} {s : State} {m : MethodId} {args : Array Value} {below : List Frame} {meth : Method} {c : Code} {own : String} {cc : ByteArray} {nL d u0 : Nat} {ini : Bool} {Qf : State → Prop} {ret : Option FieldType}
variable {C : List Ent} {Hd hh : List (Nat × Nat × Nat × Nat)} {J : Cuts} {Q : Post} {X : XPost} {r : List Ent → LSt} {pc len : Nat} {i : Instr} {aux : List Nat} {cs : List Ent} {L : List Sl} {st : List Value} {g : Hp}
/-- how a method's frame ends well -/
def RETS (E : Ev) (p : Program) (l : Launch) (e : Env) (R : Room) (s : State) (m : MethodId) (args : Array Value) (below : List Frame) (meth : Method) (c : Code) (cc : ByteArray) (nL : Nat) (Qf : State → Prop) (ret : Option FieldType) (Q : Post) : Prop :=
  (∀ (pc k : Nat) (L : List Sl) (x : Int32) (g : Hp) (ty : FieldType), decode cc pc = .ok (.ireturn, 1) → ret = some ty → kindR k ty = true → Nrw k x → Q (some (.int x)) g → Zs E p l e R s m args below meth c nL Qf pc L [.int x] g) ∧
  (∀ (pc : Nat) (L : List Sl) (x : Int64) (g : Hp), decode cc pc = .ok (.lreturn, 1) → ret = some .long → Q (some (.long x)) g → Zs E p l e R s m args below meth c nL Qf pc L [.long x] g) ∧
  (∀ (pc : Nat) (L : List Sl) (v : Value) (g : Hp), decode cc pc = .ok (.areturn, 1) → ((∃ n, ret = some (.object n)) ∨ ∃ t, ret = some (.array t)) → (v = .null ∨ ∃ a, v = .ref a) → Q (some v) g → Zs E p l e R s m args below meth c nL Qf pc L [v] g) ∧
  (∀ (pc : Nat) (L : List Sl) (g : Hp), decode cc pc = .ok (.return_, 1) → ret = none → Q none g → Zs E p l e R s m args below meth c nL Qf pc L [] g)
set_option maxHeartbeats 4000000 in
set_option maxRecDepth 20000 in
theorem wpS_sound (cx : CX E p l R s m args meth c own cc nL d u0 ini) (HT : c.exceptionTable.toList = tableOf hh) (HH : hdOK own hh Hd) (HR : RETS E p l e R s m args below meth c cc nL Qf ret Q)
    (XO : ∀ pc L t a g, X t a g → (∀ x ∈ c.exceptionTable.toList, covers x pc = false) → Zx E p l e R s m args below meth c nL Qf pc L t a g)
    (hd : decode cc pc = .ok (i, len)) (hk : LK own ini ret nL pc i len aux) (hn : nextOK (pc + len) cs)
    (A : ∀ L st g, arr J r cs L st g → Zs E p l e R s m args below meth c nL Qf (pc + len) L st g) (JM : ∀ t L st g, jmp C J r t L st g → Zs E p l e R s m args below meth c nL Qf t L st g)
    (h : wpS E C Hd J (Runs E) d Q X r pc i aux cs L st g) : Zs E p l e R s m args below meth c nL Qf pc L st g := by
  have cx0 := cx
  obtain ⟨hx, hb, hml, hown, hts, hB, hlk, hz0, hfr, hlo, hce, hsl, hini, hle⟩ := cx0
  have hX : ∀ L t a g', thr C Hd J X r pc L t a g' → Zx E p l e R s m args below meth c nL Qf pc L t a g' := fun L t a g' h => thr_sound cx HT HH JM XO h
  have hcall : ∀ (y n kind : Nat) (AsA rest : List Value) (L : List Sl), SITE own i len y n kind → (∀ H, Rel E g H → RecvOK s H AsA n kind) → wcall C Hd J (Runs E) d X r pc cs L rest g y AsA → Zs E p l e R s m args below meth c nL Qf pc L (AsA.reverse ++ rest) g := by
    intro y n kind AsA rest L hsite hrecv hw
    obtain ⟨hsh, hd1, hK⟩ := hdp_ok hw hn
    refine call_ok cx hsite hd hsh hd1 hrecv hK (fun v g' hv => ?_) (fun t a g' ht => hX L t a g' ht)
    cases v with
    | none => exact JM _ _ _ _ hv
    | some v => exact JM _ _ _ _ hv
  have hrv : ∀ {x : Cel} {b n t : Nat} {As : List Value}, g.2 b = some x → x.1 = t → t < 40 → As.length = n → ∀ H, Rel E g H → RecvOK s H (.ref b :: As) n (t + 2) := by
    intro x b n t As hx0 ht h40 hn H hR
    subst ht
    have hlen : x.1 < CL.length := Nat.lt_of_lt_of_eq h40 (by decide +kernel)
    obtain ⟨cell, y1, y2, y3, y4⟩ := cls_known hB hR hx0 (List.getElem?_eq_getElem hlen)
    have hat := (hB.1 x.1 _ (List.getElem?_eq_getElem hlen)).1
    have e9 : cell.cls = eC E x.1 := Option.some.inj (y3.symm.trans hat.1)
    exact ⟨x.1, b, As, _, cell, Or.inr rfl, rfl, hn, List.getElem?_eq_getElem hlen, y1, y2, y3, by rw [e9]; exact hat⟩
  rcases hk with hk | hk | hk
  · unfold lkB at hk
    split at hk
    · obtain ⟨h1, h2⟩ := and_dec hk; have h1 := of_decide_eq_true h1; have h2 := of_decide_eq_true h2; subst h1; subst h2; exact s_iload hx hb hd A h
    · obtain ⟨h1, h2⟩ := and_dec hk; have h1 := of_decide_eq_true h1; have h2 := of_decide_eq_true h2; subst h1; subst h2; exact s_iload_n hx hb hd A h
    · obtain ⟨h1, h2⟩ := and_dec hk; have h1 := of_decide_eq_true h1; have h2 := of_decide_eq_true h2; subst h1; subst h2; exact s_aload hx hb hd A h
    · obtain ⟨h1, h2⟩ := and_dec hk; have h1 := of_decide_eq_true h1; have h2 := of_decide_eq_true h2; subst h1; subst h2; exact s_aload_n hx hb hd A h
    · obtain ⟨h1, h2⟩ := and_dec hk; have h1 := of_decide_eq_true h1; have h2 := of_decide_eq_true h2; subst h1; subst h2; exact s_lload hx hb hd A h
    · obtain ⟨h1, h2⟩ := and_dec hk; have h1 := of_decide_eq_true h1; have h2 := of_decide_eq_true h2; subst h1; subst h2; exact s_lload_n hx hb hd A h
    · obtain ⟨h1, h2, h3⟩ := and_dec3 hk; subst h1; subst h2; exact s_istore hx hb hd h3 A h
    · obtain ⟨h1, h2, h3⟩ := and_dec3 hk; subst h1; subst h2; exact s_istore_n hx hb hd h3 A h
    · obtain ⟨h1, h2, h3⟩ := and_dec3 hk; subst h1; subst h2; exact s_astore hx hb hd h3 A h
    · obtain ⟨h1, h2, h3⟩ := and_dec3 hk; subst h1; subst h2; exact s_astore_n hx hb hd h3 A h
    · obtain ⟨h1, h2, h3⟩ := and_dec3 hk; subst h1; subst h2; exact s_lstore hx hb hd h3 A h
    · obtain ⟨h1, h2, h3⟩ := and_dec3 hk; subst h1; subst h2; exact s_lstore_n hx hb hd h3 A h
    · obtain ⟨h1, h2⟩ := and_dec2 hk; subst h2; exact s_iconst hx hb hd h1 A h
    · obtain ⟨h1, h2⟩ := and_dec2 hk; subst h2; exact s_bipush hx hb hd h1 A h
    · obtain ⟨h1, h2⟩ := and_dec2 hk; subst h2; exact s_sipush hx hb hd h1 A h
    · obtain ⟨h1, h2⟩ := and_dec2 hk; subst h2; exact s_lconst hx hb hd h1 A h
    · obtain ⟨h1, h2, h3, h4⟩ := and_dec4 hk; subst h1; subst h2; exact s_iinc hx hb hd h3 h4 A h
    · obtain ⟨h1, h2, h3, h4⟩ := and_dec4 hk; subst h1; subst h2; exact s_iincM hx hb hd h3 h4 A h
    · obtain ⟨h1, h2⟩ := and_dec2 hk; subst h2; exact s_goto hx hb hd h1 JM h
    · obtain ⟨h1, h2⟩ := and_dec2 hk; subst h2; exact s_ifCond hx hb hd h1 hn JM h
    · obtain ⟨h1, h2⟩ := and_dec2 hk; subst h2; exact s_if_icmp hx hb hd h1 hn JM h
    · rename_i q9 o9 t9; obtain ⟨h1, h2⟩ := and_dec2 hk; subst h2; cases q9; exact s_acmp_eq hx hb hd h1 hn A JM h; exact s_acmp_ne hx hb hd h1 hn A JM h
    · obtain ⟨h1, h2⟩ := and_dec2 hk; subst h2; exact s_ifnull hx hb hd h1 A JM h
    · obtain ⟨h1, h2⟩ := and_dec2 hk; subst h2; exact s_ifnonnull hx hb hd h1 A JM h
    · obtain ⟨h1, h3⟩ := and_dec hk; obtain ⟨h1, h2⟩ := and_dec h1; exact s_lookup cx hd (of_decide_eq_true h1) h2 h3 JM h
    · obtain ⟨h1, h3⟩ := and_dec hk; obtain ⟨h1, h2⟩ := and_dec h1; exact s_table cx hd (of_decide_eq_true h1) h2 (of_decide_eq_true h3) JM h
    · have h1 := of_decide_eq_true hk; subst h1; exact s_aconst_null hx hb hd A h
    · have h1 := of_decide_eq_true hk; subst h1; exact s_dup hx hb hd A h
    · have h1 := of_decide_eq_true hk; subst h1; exact s_dup_x1 hx hb hd A h
    · have h1 := of_decide_eq_true hk; subst h1; exact s_dup2 hx hb hd A h
    · have h1 := of_decide_eq_true hk; subst h1; exact s_pop hx hb hd A h
    · have h1 := of_decide_eq_true hk; subst h1; exact s_iadd hx hb hd A h
    · have h1 := of_decide_eq_true hk; subst h1; exact s_isub hx hb hd A h
    · have h1 := of_decide_eq_true hk; subst h1; exact s_imul hx hb hd A h
    · have h1 := of_decide_eq_true hk; subst h1; exact s_idiv hx hb hd hn JM h
    · have h1 := of_decide_eq_true hk; subst h1; exact s_iand hx hb hd A h
    · have h1 := of_decide_eq_true hk; subst h1; exact s_ior hx hb hd A h
    · have h1 := of_decide_eq_true hk; subst h1; exact s_ixor hx hb hd A h
    · have h1 := of_decide_eq_true hk; subst h1; exact s_ishl hx hb hd A h
    · have h1 := of_decide_eq_true hk; subst h1; exact s_ishr hx hb hd A h
    · have h1 := of_decide_eq_true hk; subst h1; exact s_iushr hx hb hd A h
    · have h1 := of_decide_eq_true hk; subst h1; exact s_ineg hx hb hd A h
    · have h1 := of_decide_eq_true hk; subst h1; exact s_i2c hx hb hd A h
    · have h1 := of_decide_eq_true hk; subst h1; exact s_i2b hx hb hd A h
    · have h1 := of_decide_eq_true hk; subst h1; exact s_i2l hx hb hd A h
    · have h1 := of_decide_eq_true hk; subst h1; exact s_l2i hx hb hd A h
    · have h1 := of_decide_eq_true hk; subst h1; exact s_ladd hx hb hd A h
    · have h1 := of_decide_eq_true hk; subst h1; exact s_land hx hb hd A h
    · have h1 := of_decide_eq_true hk; subst h1; exact s_lor hx hb hd A h
    · have h1 := of_decide_eq_true hk; subst h1; exact s_lxor hx hb hd A h
    · have h1 := of_decide_eq_true hk; subst h1; exact s_lshl hx hb hd A h
    · have h1 := of_decide_eq_true hk; subst h1; exact s_lushr hx hb hd A h
    · have h1 := of_decide_eq_true hk; subst h1; exact s_lcmp hx hb hd A h
    · have h1 := of_decide_eq_true hk; subst h1; exact s_arraylength cx hd hn JM h
    · have h1 := of_decide_eq_true hk; subst h1; exact s_baload cx hd hn JM h
    · have h1 := of_decide_eq_true hk; subst h1; exact s_caload cx hd hn JM h
    · have h1 := of_decide_eq_true hk; subst h1; exact s_iaload cx hd hn JM h
    · have h1 := of_decide_eq_true hk; subst h1; exact s_laload cx hd hn JM h
    · have h1 := of_decide_eq_true hk; subst h1; exact s_aaload cx hd hn JM h
    · have h1 := of_decide_eq_true hk; subst h1; exact s_bastore cx hd hn JM h
    · have h1 := of_decide_eq_true hk; subst h1; exact s_castore cx hd hn JM h
    · have h1 := of_decide_eq_true hk; subst h1; exact s_iastore cx hd hn JM h
    · have h1 := of_decide_eq_true hk; subst h1; exact s_lastore cx hd hn JM h
    · have h1 := of_decide_eq_true hk; subst h1; exact s_aastore cx hd hn JM h
    · have h1 := of_decide_eq_true hk
      subst h1
      dsimp only [wpS] at h
      split at h
      case h_2 => exact h.elim
      obtain ⟨t, fs, w, ha, ht, hth⟩ := h
      intro H locs ls hR hS hlr
      exact vx_athrow hx hb hd (hX _ _ _ _ hth H locs ls _ hR hS hlr ⟨fs, w, ha⟩ ht)
    · cases hk
  · unfold LKw at hk
    split at hk
    · obtain ⟨rfl, hl⟩ := hk; exact s_ldcI cx hd hl A h
    · obtain ⟨rfl, hl⟩ := hk; exact s_ldcwI cx hd hl A h
    · obtain ⟨rfl, tx, hl⟩ := hk; exact s_ldcS cx hd hl A h
    · obtain ⟨rfl, n9, hm9, hl⟩ := hk; exact s_ldcM cx hd hm9 hl A h
    · obtain ⟨rfl, hl⟩ := hk; exact s_ldc2 cx hd hl A h
    · obtain ⟨rfl, q, hq, hl⟩ := hk; exact s_getfield (ln := 0) cx hd hq hl hn JM h
    · obtain ⟨rfl, q, hq, hl, hf⟩ := hk; exact s_putfield cx hd hq hl hf hn JM h
    · obtain ⟨rfl, q, hq, hl⟩ := hk; exact s_getstatic cx hd hq hl A h
    · obtain ⟨rfl, ht, r0, hr, h1, h2, h3⟩ := hk; exact s_new cx hd hr ht h1 h2 h3 hn JM h
    · obtain ⟨rfl, h1, h2, h3, h4⟩ := hk; exact s_newarray cx hd h1 h2 h3 h4 hn JM h
    · obtain ⟨rfl, h1, C9, h2, h3, h4⟩ := hk; exact s_anewarray cx hd h1 h2 h3 h4 hn JM h
    · obtain ⟨rfl, n9, h1, h2⟩ := hk; exact s_checkcast cx hd h1 h2 hn A JM h
    · obtain ⟨rfl, n9, h1, h2⟩ := hk; exact s_instanceof cx hd h1 h2 hn A JM h
    · obtain ⟨rfl, h1⟩ := hk; exact s_copy cx hd h1 hn JM h
    · obtain ⟨rfl, h1⟩ := hk
      dsimp only [wpS] at h
      split at h
      case h_2 => exact h.elim
      obtain ⟨hsh, hd1, hf⟩ := hdp_ok h hn
      have hsum := short_sum hsh
      intro H locs ls hR hS hlr
      exact W.objInit hx hb hown (hts _ h1) (hts _ q184) (hts _ q185) rfl (hlr.1.trans hml.symm) rfl hd (by omega) (by show 2 * 0 + _ + 12 ≤ R.locals; omega) (JM _ _ _ _ hf H locs ls hR hS hlr)
    · obtain ⟨rfl, h1⟩ := hk; exact s_clone cx hd h1 hn JM h
    · obtain ⟨rfl, h1⟩ := hk; exact s_getC cx hd h1 hn JM h
    · obtain ⟨rfl, h1⟩ := hk; exact s_fill cx hd h1 hn JM h
    · obtain ⟨rfl, h1⟩ := hk; exact s_getCI cx hd h1 hn JM h
    · dsimp only [wpS] at h
      obtain ⟨As, st', rfl, hlen, hw⟩ := popN_ok h
      rw [List.append_nil] at hw
      exact hcall _ _ 0 As st' L hk (fun H _ => hlen) hw
    · dsimp only [wpS] at h
      obtain ⟨As, st', rfl, hlen, hw⟩ := popN_ok h
      rw [List.append_nil] at hw
      split at hw
      case h_2 => exact hw.elim
      rename_i b st''
      obtain ⟨⟨x, hx0, ht⟩, hw⟩ := hw
      have := hcall _ _ 1 (.ref b :: As) st'' L hk (fun H hR => by
        obtain ⟨t, b', As', r0, cell, h1, h2⟩ := hrv hx0 rfl ht hlen H hR
        exact ⟨t, b', As', r0, cell, Or.inl rfl, h2⟩) hw
      simpa using this
    · dsimp only [wpS] at h
      obtain ⟨As, st', rfl, hlen, hw⟩ := popN_ok h
      rw [List.append_nil] at hw
      split at hw
      case h_2 => exact hw.elim
      rename_i b st''
      obtain ⟨x, hx0, y9, hsel, hw⟩ := hw
      have := hcall _ _ _ (.ref b :: As) st'' L (hk _ _ hsel) (hrv hx0 rfl (sel_lt hsel) hlen) hw
      simpa using this
    · dsimp only [wpS] at h
      obtain ⟨As, st', rfl, hlen, hw⟩ := popN_ok h
      rw [List.append_nil] at hw
      split at hw
      case h_2 => exact hw.elim
      rename_i b st''
      obtain ⟨x, hx0, y9, hsel, hw⟩ := hw
      have := hcall _ _ _ (.ref b :: As) st'' L (hk _ _ hsel) (hrv hx0 rfl (sel_lt hsel) hlen) hw
      simpa using this
    · obtain ⟨rfl, ty, h1, h2⟩ := hk
      dsimp only [wpS] at h
      split at h
      case h_2 => exact h.elim
      exact HR.1 _ _ _ _ _ ty hd h1 h2 h.1 h.2
    · obtain ⟨rfl, h1⟩ := hk
      dsimp only [wpS] at h
      split at h
      case h_2 => exact h.elim
      exact HR.2.1 _ _ _ _ hd h1 h.2
    · obtain ⟨rfl, h1⟩ := hk
      dsimp only [wpS] at h
      split at h
      · exact HR.2.2.1 _ _ _ _ hd h1 (Or.inr ⟨_, rfl⟩) h.2
      · exact HR.2.2.1 _ _ _ _ hd h1 (Or.inl rfl) h.2
      · exact h.elim
    · obtain ⟨rfl, h1⟩ := hk
      dsimp only [wpS] at h
      split at h
      case h_2 => exact h.elim
      exact HR.2.2.2 _ _ _ hd h1 h.2
    · exact hk.elim
  · unfold dead at hk
    split at hk <;> first | exact h.elim | (cases hk; done)
end SOUND
