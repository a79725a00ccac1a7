/-! copying, calling, throwing, returning -/
def RunL (len : Nat) (p : Program) (l : Launch) (e : Env) (R : Room) (s : State) (m : MethodId) (args : Array Value) (below : List Frame) (meth : Method) (c : Code) (H : Heap) (locs : List Loc) (cells slots mc ms : Nat) (g : JFrame) (rest : List Value) (Qa : State → Outcome → State → Prop) (XC : String → Addr → State → State → Prop) (free : Addr → Prop) : Prop :=
  ∀ T : State, T.heap = H → Stand p l e R s m args below meth c T locs cells slots →
    (∃ (v : Option Value) (st₀ t T' : State) (L : List Loc), st₀.heap = H ∧ Stand p l e R s m args below meth c T' (locs ++ L) (cells + mc) (slots + ms) ∧ (∀ q ∈ L, free q.base) ∧ T'.heap = t.heap ∧ T'.vm = t.vm ∧ Qa st₀ (.returned v) t ∧
      Goes p e below T g T' { g with pc := g.pc + len, stack := v.toList ++ rest }) ∨
    (∃ (q : Addr) (st₀ t T' : State) (L : List Loc) (E : String) (ce : Cell), st₀.heap = H ∧ Stand p l e R s m args below meth c T' (locs ++ L) (cells + mc) (slots + ms) ∧ (∀ z ∈ L, free z.base) ∧ T'.heap = t.heap ∧ T'.vm = t.vm ∧ XC E q st₀ t ∧ t.heap[q]? = some ce ∧ ce.vm = .none ∧ s.vm.findClass E = some ce.cls ∧
      Steps p.tables e below (T.setTop g) ((T'.setTop { g with stack := rest }).pushFrame (.throwing q)))
def codeW (y : Nat) : Jvm.Cond := match (mtd y).2.2.2.2 with
  | [] => .code (mtd y).1 (mtd y).2.1 (mtd y).2.2.1 (mtd y).2.2.2.1
  | hh => .codeWith (mtd y).1 (mtd y).2.1 (mtd y).2.2.1 (mtd y).2.2.2.1 hh
def wsd (y : Nat) : List Jvm.Cond := codeW y :: lw_all
def rmO (g : Hp) (d : Nat) : Room := { frames := d, cells := (LIM - g.1) / 5, slots := LIM - g.1, locals := 40 * d }
def PcR (E : Ev) (As : List Value) (g : Hp) : Array Value → State → Prop := fun v U => v = As.toArray ∧ Base E U U.heap ∧ Rel E g U.heap
def QcR (E : Ev) (Q : Post) : Array Value → State → Outcome → State → Prop := fun _ _ o t => ∃ v g', o = .returned v ∧ Rel E g' t.heap ∧ Q v g'
def XcR (E : Ev) (X : XPost) : String → Addr → State → State → Prop := fun En q _ t => ∃ (tt : Nat) (fs : List Value) (w : Nat) (g' : Hp) (r : vw_C), Rel E g' t.heap ∧ g'.2 q = some (tt, fs, some w) ∧ CL[tt]? = some r ∧ r.1 = En ∧ X tt q g'
/-- **a call of y**: from any state whose heap g describes, with d frames left, y returns to Q or throws to X -/
def Runs (E : Ev) : KSem := fun y As g d Q X =>
  MetL (eL E) (mtd y).1 (wsd y) (rmO g d) (PcR E As g) (QcR E Q) (XcR E X) ((LIM - g.1) / 5) (LIM - g.1) (fun a => eB E ≤ a)
def BaseW (s : State) : Prop := (∀ w ∈ lw_tbl, isNw w = true → va_Nw w s) ∧ ∀ q ∈ FWL, va_Fw q.1 q.2.1 q.2.2 s
def RecvOK (s : State) (H : Heap) (AsA : List Value) (n : Nat) : Nat → Prop
  | 0 => AsA.length = n
  | k + 1 => ∃ (t : Nat) (b : Nat) (As : List Value) (r : vw_C) (cell : Cell), (k = 0 ∨ k = t + 1) ∧ AsA = .ref b :: As ∧ As.length = n ∧ CL[t]? = some r ∧ H[b]? = some cell ∧ cell.vm.isStatics = false ∧ s.vm.findClass r.1 = some cell.cls ∧ ClassAt s r.1 cell.cls
/-- what a call's row is owed by the tables: how y comes to run from there -/
def SITE (own : String) (ig : Instr) (len y n kind : Nat) : Prop :=
  ∀ (l : Launch) (p : Program) (e : Env) (R : Room) (s : State) (m : MethodId) (args : Array Value) (below : List Frame) (meth : Method) (c : Code) (H : Heap) (locs : List Loc) (cells slots : Nat) (g : JFrame) (AsA rest : List Value) (rm : Room) (Pc : Array Value → State → Prop) (Qc : Array Value → State → Outcome → State → Prop) (XC : String → Addr → State → State → Prop) (mc ms : Nat) (free : Addr → Prop),
    p.tables.exec = Jvm.exec → s.vm.findClass own = some m.cls → (∀ w ∈ lw_all, w.before args s = true) → BaseW s → MetL l (mtd y).1 (wsd y) rm Pc Qc XC mc ms free → rm.cells = mc → rm.slots = ms → rm.frames + 1 ≤ R.frames → 40 + rm.locals ≤ R.locals → FrameBlind Pc → (∀ U : State, U.heap = H → s.WarmedH U.vm → Pc AsA.toArray U) → RecvOK s H AsA n kind →
    g.method = m → g.locals.size = c.maxLocals → g.stack = AsA.reverse ++ rest → 2 * g.monitorRoom + (rest.map fun v => v.category).sum ≤ 8 → decode c.code g.pc = .ok (ig, len) → cells + mc ≤ R.cells ∧ slots + ms ≤ R.slots →
    RunL len p l e R s m args below meth c H locs cells slots mc ms g rest (Qc AsA.toArray) XC free
section CALLS
variable {E : Ev} {p : Program} {l : Launch} {e : Env} {R : Room} {s : State} {m : MethodId} {args : Array Value} {below : List Frame} {meth : Method} {c : Code} {own : String} {cc : ByteArray} {nL d u0 : Nat} {ini : Bool} {Qf : State → Prop}
variable {C : List Ent} {Hd : List (Nat × Nat × Nat × Nat)} {J : Cuts} {K : KSem} {Q : Post} {X : XPost} {r : List Ent → LSt} {pc : Nat} {aux : List Nat} {cs : List Ent} {L : List Sl} {st : List Value} {g : Hp}
theorem frameBlind_PcR {As : List Value} : FrameBlind (PcR E As g) := by
  intro a U g9 mk ⟨h1, h2, h3⟩
  refine ⟨h1, ?_, h3⟩
  have hv : (U.calling g9 mk a).vm = U.vm := rfl
  have hh : (U.calling g9 mk a).heap = U.heap := rfl
  rw [hh]
  exact Base.moved (s := U) (U := U.calling g9 mk a) (by rw [hv]; exact State.WarmedH.refl U) h2 (fun _ _ => rfl) (Nat.le_refl _)
theorem short_sum : ∀ {st : List Value}, short4 st = true → (st.map fun v => v.category).sum ≤ 8 := by
  intro st h
  have e : ∀ st : List Value, csum st = (st.map fun v => v.category).sum := by
    intro st
    induction st with
    | nil => rfl
    | cons v st ih =>
      have : vcat v = v.category := by cases v <;> rfl
      rw [csum, this, ih]
      simp
  rw [← e]
  exact Nat.le_of_ble_eq_true h
/-- in flight -/
def Zx (E : Ev) (p : Program) (l : Launch) (e : Env) (R : Room) (s : State) (m : MethodId) (args : Array Value) (below : List Frame) (meth : Method) (c : Code) (nL : Nat) (Qf : State → Prop) (pc : Nat) (L : List Sl) (t a : Nat) (g : Hp) : Prop :=
  ∀ (H : Heap) (locs : List Loc) (ls : Array Slot) (rest : List Value), Rel E g H → va_S (fun a => eB E ≤ a) s.heap H locs → lrel ls nL L → (∃ fs w, g.2 a = some (t, fs, some w)) → t < 40 → vx_W p l e R s m args below meth c H locs (H.size - s.heap.size) (hsz H - hsz s.heap) Qf (F0 m pc ls rest) a
theorem vxW_tight {H : Heap} {locs : List Loc} {cells slots : Nat} {g : JFrame} {q : Addr} (k : vx_W p l e R s m args below meth c H locs (H.size - s.heap.size) (hsz H - hsz s.heap) Qf g q) : vx_W p l e R s m args below meth c H locs cells slots Qf g q := by
  intro T hT X
  subst hT
  exact k T rfl { X with same := (same_tight X.same).1 }
theorem S_stand {T : State} {locs : List Loc} {cells slots : Nat} (X : Stand p l e R s m args below meth c T locs cells slots) (hl : ∀ z ∈ locs, eB E ≤ z.base) : va_S (fun a => eB E ≤ a) s.heap T.heap locs := by
  obtain ⟨h1, h2⟩ := vx_frame X.same
  exact ⟨h1, fun q hq hn => h2 q hq fun z hz e => hn (by rw [← e]; exact hl z hz), hl⟩
theorem call_ok {ig : Instr} {len y n kind : Nat} {AsA rest : List Value} (cx : CX E p l R s m args meth c own cc nL d u0 ini) (hsite : SITE own ig len y n kind) (hd : decode cc pc = .ok (ig, len)) (hsh : short4 rest = true) (hd1 : 1 ≤ d)
    (hrecv : ∀ H, Rel E g H → RecvOK s H AsA n kind) (hK : Runs E y AsA g (d - 1) Q X)
    (hQ : ∀ v g', Q v g' → Zs E p l e R s m args below meth c nL Qf (pc + len) L (v.toList ++ rest) g') (hX : ∀ t a g', X t a g' → Zx E p l e R s m args below meth c nL Qf pc L t a g') : Zs E p l e R s m args below meth c nL Qf pc L (AsA.reverse ++ rest) g := by
  obtain ⟨hx, hb, hml, hown, hts, hB, hlk, hz0, hfr, hlo, hce, hsl, hini, hle⟩ := cx
  intro H locs ls hR hS hlr
  refine W_le fun hle1 hle2 => ?_
  intro T hT X0
  have h3 := hR.2.1
  have hsum := short_sum hsh
  have hBH : Base E s H := Base.moved (s := s) (U := s) (State.WarmedH.refl s) hB (fun q hq => by
    have h9 := hS.2.1 q (by have := hB.2.2.2.2.2.2.2.2.2.2; omega) (by omega)
    exact h9) hle1
  have hrun := hsite l p e R s m args below meth c H locs (H.size - s.heap.size) (hsz H - hsz s.heap) (F0 m pc ls (AsA.reverse ++ rest)) AsA rest (rmO g (d - 1)) (PcR E AsA g) (QcR E Q) (XcR E X) ((LIM - g.1) / 5) (LIM - g.1) (fun a => eB E ≤ a) hx hown hts ⟨hB.2.2.1, hB.2.2.2.2.2.2.2.2.1⟩ (by rw [hle]; exact hK) rfl rfl (by show d - 1 + 1 ≤ R.frames; omega) (by show 40 + 40 * (d - 1) ≤ R.locals; omega) frameBlind_PcR
    (fun U hU hW => ⟨rfl, by rw [hU]; exact Base.moved hW hBH (fun _ _ => rfl) (Nat.le_refl _), by rw [hU]; exact hR⟩) (hrecv H hR) rfl (hlr.1.trans hml.symm) rfl (by show 2 * 0 + _ ≤ 8; omega) (by rw [hb]; exact hd) (by have := hR.2.2.1; omega)
  rcases hrun T hT X0 with ⟨v, st₀, t, T', L9, e1, X', hL, e2, e3, ⟨v9, g', e4, hR', hq⟩, hgo⟩ | ⟨q, st₀, t, T', L9, En, ce, e1, X', hL, e2, e3, ⟨tt, fs, w, g', r0, hR', hc', hr0, hrn, hq⟩, e5, e6, e7, hst⟩
  · cases e4
    have hlf : ∀ z ∈ locs ++ L9, eB E ≤ z.base := fun z hz => (List.mem_append.mp hz).elim (hS.2.2 z) (hL z)
    have hk := hQ v g' hq T'.heap (locs ++ L9) ls (by rw [e2]; exact hR') (S_stand X' hlf) hlr
    obtain ⟨t2, a1, a2⟩ := (W_tight hk) T' rfl X'
    exact ⟨t2, hgo t2 a1, a2⟩
  · have hlf : ∀ z ∈ locs ++ L9, eB E ≤ z.base := fun z hz => (List.mem_append.mp hz).elim (hS.2.2 z) (hL z)
    have hk := hX tt q g' hq T'.heap (locs ++ L9) ls rest (by rw [e2]; exact hR') (S_stand X' hlf) hlr ⟨fs, w, hc'⟩ (CL_len hr0)
    obtain ⟨t2, a1, a2⟩ := (vxW_tight hk) T' rfl X'
    exact ⟨t2, hst.trans a1, a2⟩
end CALLS
theorem popN_ok {n : Nat} {acc st : List Value} {f : List Value → List Value → Prop} (h : popN n acc st f) : ∃ As st', st = As.reverse ++ st' ∧ As.length = n ∧ f (As ++ acc) st' := by
  induction n generalizing acc st with
  | zero => exact ⟨[], st, rfl, rfl, h⟩
  | succ n ih =>
    cases st with
    | nil => exact h.elim
    | cons v st =>
      obtain ⟨As, st', h1, h2, h3⟩ := ih h
      exact ⟨As ++ [v], st', by simp [h1], by simp [h2], by simpa using h3⟩
def hdOK (own : String) : List (Nat × Nat × Nat × Nat) → List (Nat × Nat × Nat × Nat) → Prop
  | [], [] => True
  | q :: qs, z :: zs => q.1 = z.1 ∧ q.2.1 = z.2.1 ∧ q.2.2.1 = z.2.2.1 ∧ q.2.2.2 ≠ 0 ∧ (900 ≤ z.2.2.2 ∨ ∃ n, CNL[z.2.2.2]? = some n ∧ Jvm.Cond.classLink own q.2.2.2 n ∈ lw_all) ∧ hdOK own qs zs
  | _, _ => False
theorem cast_lt : (CASTY.all fun p => Nat.blt p.2 900) = true ∧ (CASTN.all fun p => Nat.blt p.2 900) = true := by decide +kernel
theorem cast_no {l : List (Nat × Nat)} {t c : Nat} (h : (l.all fun p => Nat.blt p.2 900) = true) (hc : 900 ≤ c) : (l.any fun p => Nat.beq p.1 t && Nat.beq p.2 c) = false := by
  cases e : (l.any fun p => Nat.beq p.1 t && Nat.beq p.2 c) with
  | false => rfl
  | true =>
    obtain ⟨p, hp, hq⟩ := List.any_eq_true.mp e
    have h1 := Nat.eq_of_beq_eq_true (Bool.and_eq_true_iff.mp hq).2
    have h2 := List.all_eq_true.mp h p hp
    have h3 : p.2 + 1 ≤ 900 := Nat.le_of_ble_eq_true h2
    omega
theorem castY_no {t c : Nat} (hc : 900 ≤ c) : castY t c = false := cast_no cast_lt.1 hc
theorem castN_no {t c : Nat} (hc : 900 ≤ c) : castN t c = false := cast_no cast_lt.2 hc
section THROWS
variable {E : Ev} {p : Program} {l : Launch} {e : Env} {R : Room} {s : State} {m : MethodId} {args : Array Value} {below : List Frame} {meth : Method} {c : Code} {own : String} {cc : ByteArray} {nL d u0 : Nat} {ini : Bool} {Qf : State → Prop}
variable {C : List Ent} {Hd : List (Nat × Nat × Nat × Nat)} {J : Cuts} {K : KSem} {Q : Post} {X : XPost} {r : List Ent → LSt} {pc : Nat} {aux : List Nat} {cs : List Ent} {L : List Sl} {st : List Value} {g : Hp}
theorem castable_refl {n : String} {cC : ClassId} (h : ClassAt s n cC) : (Jvm.Cond.castable n n).before args s = true := by
  have h1 := va_assign h
  simp [Cond.before, Cond.holds, Cond.value, h.1, h1]
theorem thr_sound {t a : Nat} {hh : List (Nat × Nat × Nat × Nat)} (cx : CX E p l R s m args meth c own cc nL d u0 ini) (HT : c.exceptionTable.toList = tableOf hh) (HH : hdOK own hh Hd) (JM : ∀ t L st g, jmp C J r t L st g → Zs E p l e R s m args below meth c nL Qf t L st g)
    (XO : ∀ pc L t a g, X t a g → (∀ x ∈ c.exceptionTable.toList, covers x pc = false) → Zx E p l e R s m args below meth c nL Qf pc L t a g) (h : thr C Hd J X r pc L t a g) : Zx E p l e R s m args below meth c nL Qf pc L t a g := by
  obtain ⟨hx, hb, hml, hown, hts, hB, hlk, hz0, hfr, hlo, hce, hsl, hini, hle⟩ := cx
  intro H locs ls rest hR hS hlr hc0 ht40
  obtain ⟨fs, w, hc⟩ := hc0
  unfold thr at h
  have key : ∀ (hh Hd : List (Nat × Nat × Nat × Nat)) (pre : List ExceptionTableEntry) (pd : Bool), c.exceptionTable.toList = pre ++ tableOf hh → hdOK own hh Hd → (∀ z ∈ pre, covers z pc = false ∨ (z.catchType ≠ 0 ∧ ∃ nm : String, (Cond.classLink own z.catchType nm).before args s = true ∧ ∀ (r : vw_C), CL[t]? = some r → va_Nc r.1 nm s)) → (pd = false → ∀ z ∈ pre, covers z pc = false) → hnd (fun h => jmp C J r h L [.ref a] g) (X t a g) pc t pd Hd → vx_W p l e R s m args below meth c H locs (H.size - s.heap.size) (hsz H - hsz s.heap) Qf (F0 m pc ls rest) a := by
    intro hh
    induction hh with
    | nil =>
      intro Hd pre pd h1 h2 h3 h4 h5
      cases Hd with
      | cons z zs => exact h2.elim
      | nil =>
        cases pd with
        | true => exact h5.elim
        | false =>
          refine XO pc L t a g h5.2 (fun x hx9 => h4 rfl x ?_) H locs ls rest hR hS hlr ⟨fs, w, hc⟩ ht40
          rw [h1] at hx9
          simpa [tableOf] using hx9
    | cons q hh ih =>
      intro Hd pre pd h1 h2 h3 h4 h5
      cases Hd with
      | nil => exact h2.elim
      | cons z zs =>
        obtain ⟨e1, e2, e3, e4, hnl, h2⟩ := h2
        have h1' : c.exceptionTable.toList = (pre ++ [⟨q.1, q.2.1, q.2.2.1, q.2.2.2⟩]) ++ tableOf hh := by rw [h1]; simp [tableOf]
        have hcov : covers ⟨q.1, q.2.1, q.2.2.1, q.2.2.2⟩ pc = (Nat.ble z.1 pc && Nat.blt pc z.2.1) := by
          show (decide (q.1 ≤ pc) && decide (pc < q.2.1)) = _
          rw [e1, e2]
          have h8 : ∀ a b : Nat, decide (a ≤ b) = Nat.ble a b := fun a b => by
            by_cases h : a ≤ b
            · rw [decide_eq_true h, Nat.ble_eq_true_of_le h]
            · rw [decide_eq_false h]
              cases e : Nat.ble a b with
              | false => rfl
              | true => exact absurd (Nat.le_of_ble_eq_true e) h
          rw [h8, show decide (pc < z.2.1) = decide (pc + 1 ≤ z.2.1) from rfl, h8]
          rfl
        unfold hnd at h5
        cases hcv : (Nat.ble z.1 pc && Nat.blt pc z.2.1) with
        | false =>
          rw [hcv] at h5 hcov
          refine ih zs _ pd h1' h2 (fun y hy => ?_) (fun hp y hy => ?_) h5
          · rcases List.mem_append.mp hy with hy | hy
            · exact h3 y hy
            · rw [List.mem_singleton.mp hy]; exact Or.inl hcov
          · rcases List.mem_append.mp hy with hy | hy
            · exact h4 hp y hy
            · rw [List.mem_singleton.mp hy]; exact hcov
        | true =>
          rw [hcv] at h5 hcov
          rcases hnl with h900 | ⟨n, hn, hl⟩
          · rw [castY_no h900, castN_no h900] at h5
            exact h5.elim
          cases hy9 : castY t z.2.2.2 with
          | true =>
            rw [hy9] at h5
            have hk := JM _ _ _ _ h5 H locs ls hR hS hlr
            obtain ⟨p9, hp, hq2⟩ := List.any_eq_true.mp hy9
            obtain ⟨hq3, hq4⟩ := Bool.and_eq_true_iff.mp hq2
            have f1 := Nat.eq_of_beq_eq_true hq3
            have f2 := Nat.eq_of_beq_eq_true hq4
            rcases CASTY_ok p9 hp with ⟨r0, n9, hr, hn9, hor⟩ | ⟨h100, ty, n9, hj, hn9, hnm⟩
            · rw [f1] at hr
              rw [f2] at hn9
              cases hn.symm.trans hn9
              obtain ⟨r1, g1, g2, cell, g3, g4, g5, -⟩ := (hR.1 a _ hc).inst (CL_len hr)
              have hca := (hB.1 t r0 hr).1
              have hcast : (Jvm.Cond.castable r0.1 n).before args s = true := by
                rcases hor with ho | ho
                · rw [← ho]; exact castable_refl hca
                · exact nw_use hB ho rfl
              rw [← e3] at hk
              exact vx_catch (E := r0.1) hown pre ⟨q.1, q.2.1, q.2.2.1, q.2.2.2⟩ (tableOf hh) (by rw [h1]; simp [tableOf]) (fun y hy => (h3 y hy).imp id (fun ⟨a1, nm, a2, a3⟩ => ⟨a1, nm, a2, a3 r0 hr⟩)) hcov e4 (hts _ hl) hcast g3 (g5.2.2 (by simp)).1 (by rw [g4]; exact hca.1) hk
            · rw [f1] at h100 hj
              omega
          | false =>
            rw [hy9] at h5
            cases hn9 : castN t z.2.2.2 with
            | false => rw [hn9] at h5; exact h5.elim
            | true =>
              rw [hn9] at h5
              refine ih zs _ true h1' h2 (fun y hy => ?_) (fun hp => by cases hp) h5
              rcases List.mem_append.mp hy with hy | hy
              · exact h3 y hy
              · rw [List.mem_singleton.mp hy]
                refine Or.inr ⟨e4, n, hts _ hl, fun r1 hr1 => ?_⟩
                obtain ⟨p9, hp, hq2⟩ := List.any_eq_true.mp hn9
                obtain ⟨hq3, hq4⟩ := Bool.and_eq_true_iff.mp hq2
                have f1 := Nat.eq_of_beq_eq_true hq3
                have f2 := Nat.eq_of_beq_eq_true hq4
                exact hB.2.2.2.2.1 p9 hp r1 n (by rw [f1]; exact hr1) (by rw [f2]; exact hn)
  exact key hh Hd [] false (by rw [HT]; rfl) HH (fun z hz => nomatch hz) (fun _ z hz => nomatch hz) h
end THROWS
