/-! METHODS: from wp to Runs -/
section METHS
variable {E : Ev} {d : Nat} {Q : Post} {X : XPost} {C : List Ent} {Hd : List (Nat × Nat × Nat × Nat)} {J : Cuts} {own : String} {ini : Bool} {y : Nat}
/-- y stands at pc: whoever called it, it comes to its end with Q, or throws with X -/
def From (E : Ev) (y : Nat) (own : String) (ini : Bool) (d : Nat) (Q : Post) (X : XPost) (pc : Nat) (L : List Sl) (st : List Value) (g : Hp) : Prop :=
  ∀ (p : Program) (l : Launch) (e : Env) (R : Room) (s : State) (m : MethodId) (args : Array Value) (below : List Frame) (meth : Method) (c : Code) (u0 : Nat) (Qf : State → Prop),
    CX E p l R s m args meth c own (mtd y).2.1 (mtd y).2.2.1 d u0 ini → c.exceptionTable.toList = tableOf (mtd y).2.2.2.2 → RETS E p l e R s m args below meth c (mtd y).2.1 (mtd y).2.2.1 Qf (mtd y).2.2.2.1 Q →
    (∀ pc L t a g, X t a g → (∀ x ∈ c.exceptionTable.toList, covers x pc = false) → Zx E p l e R s m args below meth c (mtd y).2.2.1 Qf pc L t a g) → Zs E p l e R s m args below meth c (mtd y).2.2.1 Qf pc L st g
/-- the code list of y -/
def METH (y : Nat) (own : String) (ini : Bool) (C : List Ent) (Hd : List (Nat × Nat × Nat × Nat)) : Prop :=
  (mtd y).1.cls = own ∧ plainFor (mtd y).1 = true ∧ (ini = true → (mtd y).1.name = "<init>") ∧ hdOK own (mtd y).2.2.2.2 Hd ∧ CodeOK own ini (mtd y).2.2.2.1 (mtd y).2.2.1 (mtd y).2.1 C
theorem wp_from (hM : METH y own ini C Hd) (hJ : ∀ t I, lkp J t = some I → ∀ L st g, I L st g → From E y own ini d Q X t L st g) : ∀ (n : Nat) (cs : List Ent) (L : List Sl) (st : List Value) (g : Hp) (pc : Nat), CodeOK own ini (mtd y).2.2.2.1 (mtd y).2.2.1 (mtd y).2.1 cs → nextOK pc cs → wp E C Hd J (Runs E) d Q X n cs L st g → From E y own ini d Q X pc L st g := by
  intro n
  induction n with
  | zero => intro cs L st g pc _ _ h; exact h.elim
  | succ n ih =>
    intro cs L st g pc hC hn h
    cases cs with
    | nil => exact h.elim
    | cons q cs =>
      obtain ⟨pc0, i, len, aux⟩ := q
      have hn : pc0 = pc := hn
      subst hn
      obtain ⟨⟨h1, h2, h3⟩, h4⟩ := hC
      intro p l e R s m args below meth c u0 Qf cx HT HR XO
      have A0 : ∀ (cs : List Ent) (t : Nat), CodeOK own ini (mtd y).2.2.2.1 (mtd y).2.2.1 (mtd y).2.1 cs → nextOK t cs → ∀ L st g, arr J (wp E C Hd J (Runs E) d Q X n) cs L st g → Zs E p l e R s m args below meth c (mtd y).2.2.1 Qf t L st g := by
        intro cs t hcs hnx L st g ha
        cases cs with
        | nil => exact ha.elim
        | cons q cs =>
          unfold arr at ha
          dsimp only at ha
          have hnx0 : q.1 = t := by obtain ⟨a, b⟩ := q; exact hnx
          cases hl : lkp J q.1 with
          | some I =>
            rw [hl] at ha
            rw [← hnx0]
            exact hJ _ I hl L st g ha.2 p l e R s m args below meth c u0 Qf cx HT HR XO
          | none =>
            rw [hl] at ha
            exact ih _ L st g t hcs hnx ha p l e R s m args below meth c u0 Qf cx HT HR XO
      exact wpS_sound cx HT hM.2.2.2.1 HR XO h1 h2 h3 (A0 cs _ h4 h3) (fun t L st g hj => A0 _ t (drp_ok hM.2.2.2.2 t).1 (drp_ok hM.2.2.2.2 t).2 L st g hj) h
/-- a stretch of the code, from pc on, with cuts -/
theorem from_wp (n : Nat) (hM : METH y own ini C Hd) (hJ : ∀ t I, lkp J t = some I → ∀ L st g, I L st g → From E y own ini d Q X t L st g) {pc : Nat} {L : List Sl} {st : List Value} {g : Hp} (h : wp E C Hd J (Runs E) d Q X n (drp C pc) L st g) : From E y own ini d Q X pc L st g :=
  wp_from hM hJ n _ L st g pc (drp_ok hM.2.2.2.2 pc).1 (drp_ok hM.2.2.2.2 pc).2 h
theorem nocut : ∀ t I, lkp ([] : Cuts) t = some I → ∀ L st g, I L st g → From E y own ini d Q X t L st g := fun _ _ h => by cases h
theorem onecut {q : Nat} {I0 : LSt} (h : ∀ L st g, I0 L st g → From E y own ini d Q X q L st g) : ∀ t I, lkp ([(q, I0)] : Cuts) t = some I → ∀ L st g, I L st g → From E y own ini d Q X t L st g := by
  intro t I hl
  have hm := lkp_mem hl
  rw [List.mem_singleton] at hm
  cases hm
  exact h
/-- the locals at the entry -/
def entL : List Value → List Sl
  | [] => []
  | .long x :: l => some (.inr (.long x)) :: none :: entL l
  | .double x :: l => some (.inr (.double x)) :: none :: entL l
  | .int x :: l => some (.inl (.int x)) :: entL l
  | .ref x :: l => some (.inl (.ref x)) :: entL l
  | .null :: l => some (.inl .null) :: entL l
  | .float x :: l => some (.inl (.float x)) :: entL l
  | .retAddr x :: l => some (.inl (.retAddr x)) :: entL l
def padL : Nat → List Sl → List Sl
  | 0, L => L
  | n + 1, [] => none :: padL n []
  | n + 1, x :: L => x :: padL n L
theorem padL_at : ∀ (n : Nat) (L : List Sl) (i : Nat) (x : Value ⊕ Value), (padL n L)[i]? = some (some x) → L[i]? = some (some x) := by
  intro n
  induction n with
  | zero => intro L i x h; exact h
  | succ n ih =>
    intro L i x h
    cases L with
    | nil =>
      cases i with
      | zero => simp [padL] at h
      | succ i => exact absurd (ih [] i x (by simpa [padL] using h)) (by simp)
    | cons q L =>
      cases i with
      | zero => simpa [padL] using h
      | succ i => simpa using ih L i x (by simpa [padL] using h)
theorem entL_at : ∀ (vs : List Value) (k i : Nat) (x : Value ⊕ Value), (entL vs)[i]? = some (some x) → (k + i, evS x) ∈ lv_args k vs ∧ catS x := by
  intro vs
  induction vs with
  | nil => intro k i x h; simp [entL] at h
  | cons v vs ih =>
    intro k i x h
    have two : ∀ (hc : v.category = 2), entL (v :: vs) = some (.inr v) :: none :: entL vs → (k + i, evS x) ∈ lv_args k (v :: vs) ∧ catS x := by
      intro hc he
      rw [he] at h
      match i, h with
      | 0, h => simp at h; subst h; exact ⟨by simp [lv_args, evS], hc⟩
      | 1, h => simp at h
      | i + 2, h =>
        obtain ⟨h1, h2⟩ := ih (k + 2) i x (by simpa using h)
        refine ⟨?_, h2⟩
        have : k + (i + 2) = k + 2 + i := by omega
        rw [this]
        simp only [lv_args, hc]
        exact List.mem_cons_of_mem _ h1
    have one : ∀ (hc : v.category = 1), entL (v :: vs) = some (.inl v) :: entL vs → (k + i, evS x) ∈ lv_args k (v :: vs) ∧ catS x := by
      intro hc he
      rw [he] at h
      cases i with
      | zero => simp at h; subst h; exact ⟨by simp [lv_args, evS], hc⟩
      | succ i =>
        obtain ⟨h1, h2⟩ := ih (k + 1) i x (by simpa using h)
        refine ⟨?_, h2⟩
        have : k + (i + 1) = k + 1 + i := by omega
        rw [this]
        simp only [lv_args, hc]
        exact List.mem_cons_of_mem _ h1
    cases v with
    | long => exact two rfl rfl
    | double => exact two rfl rfl
    | int => exact one rfl rfl
    | ref => exact one rfl rfl
    | null => exact one rfl rfl
    | float => exact one rfl rfl
    | retAddr => exact one rfl rfl
/-- **a method's contract out of its code list** -/
theorem Runs_from {As : List Value} {g : Hp} (hM : METH y own ini C Hd) (hlen : (lg_sl As).length ≤ (mtd y).2.2.1) (h : From E y own ini d Q X 0 (padL (mtd y).2.2.1 (entL As)) [] g) : Runs E y As g d Q X := by
  have body : ∀ (p : Program) e s m args below meth c, p.tables.exec = Jvm.exec → s.methodNamed? (mtd y).1 = some m → s.vm.method? m = some meth → meth.sig.returnType = (mtd y).2.2.2.1 → meth.locks = false → c.code = (mtd y).2.1 → (headSpec (wsd y) (rmO g d)).pre.before args s = true → c.maxLocals = (mtd y).2.2.1 → c.exceptionTable.toList = tableOf (mtd y).2.2.2.2 → PcR E As g args s →
      W p (eL E) e (headSpec (wsd y) (rmO g d)).room s m args below meth c s.heap [] 0 0 (vx_MQ below (QcR E Q) (XcR E X) args s ((LIM - g.1) / 5) (LIM - g.1) (fun a => eB E ≤ a)) (entryFrame m args (mtd y).2.2.1) := by
    intro p e s m args below meth c Bexec Bnamed Bmethod Breturns BnotSync Bbytes Bpre hml HT hv
    obtain ⟨rfl, hB, hR⟩ := hv
    have hts := atoms_spec (ws := wsd y) Bpre
    have hts : ∀ w ∈ lw_all, w.before _ s = true := fun w h => hts w (List.mem_cons_of_mem _ h)
    have hown : s.vm.findClass own = some m.cls := by rw [← hM.1]; exact findClass_of_methodNamed Bnamed
    have cx : CX E p (eL E) (rmO g d) s m As.toArray meth c own (mtd y).2.1 (mtd y).2.2.1 d g.1 ini :=
      ⟨Bexec, Bbytes, hml, hown, hts, hB, BnotSync, hR.2.1, Nat.le_refl _, Nat.le_refl _, Nat.le_refl _, Nat.le_refl _, fun hi => by rw [(name_of_methodNamed Bnamed Bmethod).1]; exact hM.2.2.1 hi, rfl⟩
    have hr := Breturns
    have fit : ∀ {H : Heap} {g' : Hp}, Rel E g' H → s.heap.size ≤ H.size → hsz s.heap ≤ hsz H → H.size - s.heap.size ≤ (LIM - g.1) / 5 ∧ hsz H - hsz s.heap ≤ LIM - g.1 := by
      intro H g' hR' h1 h2
      have a1 := hR.2.1
      have a2 := hR'.2.1
      have a3 := hR'.2.2.1
      omega
    have HR : RETS E p (eL E) e (rmO g d) s m As.toArray below meth c (mtd y).2.1 (mtd y).2.2.1 (vx_MQ below (QcR E Q) (XcR E X) As.toArray s ((LIM - g.1) / 5) (LIM - g.1) (fun a => eB E ≤ a)) (mtd y).2.2.2.1 Q := by
      refine ⟨fun pc k L x g' ty hd h1 h2 h3 hq => ?_, fun pc L x g' hd h1 hq => ?_, fun pc L v g' hd h1 h2 hq => ?_, fun pc L g' hd h1 hq => ?_⟩
      all_goals
        intro H locs ls hR' hS hlr
        refine W_le fun hle1 hle2 => ?_
        obtain ⟨hc1, hc2⟩ := fit hR' hle1 hle2
        refine vx_ret (W.widen hc1 hc2 ?_)
      · have hna : narrow ty (.int x) = .int x := by
          have : k = 0 ∨ k = 1 ∨ k = 2 ∨ k = 3 := by
            unfold kindR at h2
            split at h2 <;> first | omega | (cases h2; done)
          rcases this with rfl | rfl | rfl | rfl <;> (cases ty <;> first | (cases h2; done) | skip)
          · rfl
          · exact (Nrw_bool h3).1
          · exact (Nrw_char h3).1
          · exact (Nrw_byte h3).1
        exact W.zret Bexec Bbytes (hr.trans h1) hna (fun t ht _ => ⟨_, g', rfl, by rw [ht]; exact hR', hq⟩) hS.2.2 hd (hlocks := BnotSync)
      · exact W.lret Bexec Bbytes (hr.trans h1) (fun t ht _ => ⟨_, g', rfl, by rw [ht]; exact hR', hq⟩) hS.2.2 hd (hlocks := BnotSync)
      · rcases h1 with ⟨n, h1⟩ | ⟨n, h1⟩
        · exact W.aret Bexec Bbytes (hr.trans h1) (Or.inl ⟨_, rfl⟩) h2 (fun t ht _ => ⟨_, g', rfl, by rw [ht]; exact hR', hq⟩) hS.2.2 hd (hlocks := BnotSync)
        · exact W.aret Bexec Bbytes (hr.trans h1) (Or.inr ⟨_, rfl⟩) h2 (fun t ht _ => ⟨_, g', rfl, by rw [ht]; exact hR', hq⟩) hS.2.2 hd (hlocks := BnotSync)
      · exact W.vret Bexec Bbytes (hr.trans h1) (fun t ht _ => ⟨_, g', rfl, by rw [ht]; exact hR', hq⟩) hS.2.2 hd (hlocks := BnotSync)
    have XO : ∀ pc L t a g', X t a g' → (∀ x ∈ c.exceptionTable.toList, covers x pc = false) → Zx E p (eL E) e (rmO g d) s m As.toArray below meth c (mtd y).2.2.1 (vx_MQ below (QcR E Q) (XcR E X) As.toArray s ((LIM - g.1) / 5) (LIM - g.1) (fun a => eB E ≤ a)) pc L t a g' := by
      intro pc L t a g' hx hcov H locs ls rest hR' hS hlr ⟨fs, w, hc⟩ h40
      intro T hT X0
      subst hT
      have hle1 := X0.same.2.1
      have hle2 := (same_tight X0.same).2
      obtain ⟨hc1, hc2⟩ := fit hR' hle1 hle2
      obtain ⟨r0, hr0, hlen0, cell, hcell, hcls, hvm, hval⟩ := (hR'.1 a _ hc).inst h40
      have hat := (hB.1 t r0 hr0).1
      exact vx_out (E := r0.1) hcov BnotSync hcell (hvm.2.2 (by simp)).1 (by rw [hcls]; exact hat.1) (fun t9 ht9 _ => ⟨t, fs, w, g', r0, by rw [ht9]; exact hR', hc, hr0, rfl, hx⟩) hS.2.2 hc1 hc2 T rfl X0
    have hk := h p (eL E) e (rmO g d) s m As.toArray below meth c g.1 _ cx HT HR XO
    have hl := lv_entry As (n := (mtd y).2.2.1) hlen
    have hl2 : lrel ((lg_sl As ++ List.replicate ((mtd y).2.2.1 - (lg_sl As).length) Slot.unset).toArray) (mtd y).2.2.1 (padL (mtd y).2.2.1 (entL As)) := by
      refine ⟨hl.1, hl.2.1, fun i x hx => ?_⟩
      obtain ⟨h1, h2⟩ := entL_at As 0 i x (padL_at _ _ i x hx)
      rw [Nat.zero_add] at h1
      exact ⟨hl.2.2 _ h1, h2⟩
    have hw := hk s.heap [] _ hR va_S.rf hl2
    rw [lg_entry_eq]
    refine W_tight hw
  have fin : ∀ (p : Program) e s m args below meth c s₁, p.tables.exec = Jvm.exec → s.methodNamed? (mtd y).1 = some m → s.vm.method? m = some meth → meth.sig.returnType = (mtd y).2.2.2.1 → meth.locks = false → c.code = (mtd y).2.1 → c.maxLocals = (mtd y).2.2.1 → (headSpec (wsd y) (rmO g d)).pre.before args s = true → s₁.heap = s.heap → Stand p (eL E) e (headSpec (wsd y) (rmO g d)).room s m args below meth c s₁ [] 0 0 → PcR E As g args s → c.exceptionTable.toList = tableOf (mtd y).2.2.2.2 →
      ∃ s₂ o, Steps p.tables e below (s₁.setTop (entryFrame m args (mtd y).2.2.1)) s₂ ∧ s₂.status = .running ∧ Ended s₂ below o ∧ vx_Q (QcR E Q) (XcR E X) ((LIM - g.1) / 5) (LIM - g.1) (fun a => eB E ≤ a) args s o s₂ := by
    intro p e s m args below meth c s₁ b1 b2 b3 b4 b5 b6 b7 b8 hh0 hst hv ht
    obtain ⟨t, a1, o, c1, c2, c3⟩ := body p e s m args below meth c b1 b2 b3 b4 b5 b6 b8 b7 ht hv s₁ hh0 hst
    exact ⟨t, o, a1, c1, c2, c3⟩
  by_cases hh : (mtd y).2.2.2.2 = []
  · have hcw : Jvm.Cond.code (mtd y).1 (mtd y).2.1 (mtd y).2.2.1 (mtd y).2.2.2.1 ∈ wsd y := by rw [← codeW_plain hh]; exact List.mem_cons_self
    refine MetL.of_body (code := (mtd y).2.1) (maxLocals := (mtd y).2.2.1) (ret := (mtd y).2.2.2.1) hM.2.1 ?_ ?_
    · intro args s m h hn
      obtain ⟨meth, c, h1, h2, h3, h4, h5, h6, -, -⟩ := Cond.code_spec hn (atoms_spec (ws := wsd y) h _ hcw)
      exact ⟨meth, c, h1, h2, h3, h4, h5, h6⟩
    · intro p e s m args below meth c s₁ b1 b2 b3 b4 b5 b6 b7 b8 hh0 hst hv
      refine fin p e s m args below meth c s₁ b1 b2 b3 b4 b5 b6 b7 b8 hh0 hst hv ?_
      obtain ⟨meth9, c9, h1, h2, -, -, -, -, h7, -⟩ := Cond.code_spec b2 (atoms_spec (ws := wsd y) b8 _ hcw)
      cases Option.some.inj (h1.symm.trans b3)
      cases Option.some.inj (h2.symm.trans hst.code)
      rw [hh, Array.isEmpty_iff.mp h7]
      rfl
  · have hcw : Jvm.Cond.codeWith (mtd y).1 (mtd y).2.1 (mtd y).2.2.1 (mtd y).2.2.2.1 (mtd y).2.2.2.2 ∈ wsd y := by rw [← codeW_with hh]; exact List.mem_cons_self
    refine MetL.of_body (code := (mtd y).2.1) (maxLocals := (mtd y).2.2.1) (ret := (mtd y).2.2.2.1) hM.2.1 ?_ ?_
    · intro args s m h hn
      obtain ⟨m9, meth, c, hn9, h1, h2, h3, h4, -, h5, h6, -⟩ := Cond.codeWith_spec (atoms_spec (ws := wsd y) h _ hcw)
      cases hn.symm.trans hn9
      exact ⟨meth, c, h1, h2, h3, h4, h5, h6⟩
    · intro p e s m args below meth c s₁ b1 b2 b3 b4 b5 b6 b7 b8 hh0 hst hv
      refine fin p e s m args below meth c s₁ b1 b2 b3 b4 b5 b6 b7 b8 hh0 hst hv ?_
      obtain ⟨m9, meth9, c9, hn9, h1, h2, -, -, h6, -⟩ := Cond.codeWith_spec (atoms_spec (ws := wsd y) b8 _ hcw)
      cases Option.some.inj (hn9.symm.trans b2)
      cases Option.some.inj (h1.symm.trans b3)
      cases Option.some.inj (h2.symm.trans hst.code)
      rw [← h6, table_eq]
end METHS
