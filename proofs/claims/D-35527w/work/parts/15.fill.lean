/-! Throwable.fillInStackTrace, where no stack traces are made -/
section FILL
variable {E : Ev} {p : Program} {l : Launch} {e : Env} {R : Room} {s : State} {m : MethodId} {args : Array Value} {below : List Frame} {meth : Method} {c : Code} {own : String} {cc : ByteArray} {nL d u0 : Nat} {ini : Bool} {Qf : State → Prop}
variable {C : List Ent} {Hd : List (Nat × Nat × Nat × Nat)} {J : Cuts} {K : KSem} {Q : Post} {X : XPost} {r : List Ent → LSt} {pc : Nat} {aux : List Nat} {cs : List Ent} {L : List Sl} {st : List Value} {g : Hp}
theorem thr_atoms (hB : Base E s s.heap) (hts : ∀ w ∈ lw_all, w.before args s = true) : ∀ x ∈ Bundle.throwableAtoms, x.before args s = true := by
  intro x hx
  simp only [Bundle.throwableAtoms, List.mem_cons, List.not_mem_nil, or_false] at hx
  rcases hx with rfl | rfl | rfl | rfl | rfl | rfl | rfl | rfl | rfl | rfl | rfl | rfl | rfl | rfl | rfl | rfl | rfl | rfl | rfl | rfl | rfl | rfl | rfl | rfl
  · exact hts _ q119
  · exact hts _ q310
  · exact hts _ q319
  · exact hts _ q329
  · exact hts _ q332
  · exact hts _ q334
  · exact hts _ q311
  · exact hts _ q312
  · exact hts _ q184
  · exact hts _ q185
  · exact hts _ q313
  · exact hts _ q318
  · exact hts _ q330
  · exact hts _ q540
  · exact hts _ q300
  · exact hts _ q541
  · exact hts _ q302
  · exact hts _ q542
  · exact hts _ q304
  · exact hts _ q314
  · exact hB.2.2.2.2.2.2.1.2.2.2.1.word
  · exact hts _ q316
  · exact hB.2.2.2.2.2.2.1.2.2.2.2.word
  · exact hts _ q306
theorem flags_off {l : Launch} (h : l.flags = flags0) : l.stackTraces = false := by
  unfold Launch.stackTraces
  rw [h]
  decide +kernel
theorem s_fill {i z1 z2 z3 z4 : Nat} (cx : CX E p l R s m args meth c own cc nL d u0 ini) (hd : decode cc pc = .ok (.invokevirtual i, 3)) (hl : Jvm.Cond.methodLink own i Bundle.tFill ∈ lw_all) (hn : nextOK (pc + 3) cs) (JM : ∀ t L st g, jmp C J r t L st g → Zs E p l e R s m args below meth c nL Qf t L st g) (h : wpS E C Hd J K d Q X r pc (.invokevirtual i) [z1, z2, z3, z4] cs L st g) : Zs E p l e R s m args below meth c nL Qf pc L st g := by
  obtain ⟨hx, hb, hml, hown, hts, hB, hlk, hz0, hfr, hlo, hce, hsl, hini, hle⟩ := cx
  dsimp only [wpS] at h
  split at h
  case h_2 => exact h.elim
  rename_i a st
  obtain ⟨hsh, hd4, t, fs, w, ha, hT, hv1, hv4, hf⟩ := hdp_ok h hn
  intro H locs ls hR hS hlr V hV X0
  subst hV
  have hsum := short_sum hsh
  have htc : t = 17 ∨ t = 18 ∨ t = 36 ∨ t = 37 ∨ t = 38 := by
    have hT := hT
    simp [thrT] at hT
    omega
  obtain ⟨r0, hr, hlen, cell, hcell, hcls, hvm, hval⟩ := (hR.1 a _ ha).inst (by show t < 40; omega)
  dsimp only at hr hlen hcls hval
  obtain ⟨hvmn, hba, hmon⟩ := hvm.2.2 (by simp)
  have key : Jvm.Cond.selects r0.1 Bundle.tFill0 Bundle.tFill0 ∈ lw_all ∧ Jvm.Cond.selects r0.1 Bundle.tFill Bundle.tFill ∈ lw_all ∧ (r0.2.1 1).1 = Bundle.tN ∧ (r0.2.1 1).2.1 = "stackTrace" ∧ (r0.2.1 1).2.2.1 = Bundle.steD ∧ (r0.2.1 1).2.2.2 = false ∧ (r0.2.1 4).1 = Bundle.tN ∧ (r0.2.1 4).2.1 = "backtrace" ∧ (r0.2.1 4).2.2.1 = "Ljava/lang/Object;" ∧ 4 < r0.2.2 := by
    rcases htc with rfl | rfl | rfl | rfl | rfl
    · cases hr; exact ⟨q2056, q321, rfl, rfl, rfl, rfl, rfl, rfl, rfl, by decide⟩
    · cases hr; exact ⟨q1003, q322, rfl, rfl, rfl, rfl, rfl, rfl, rfl, by decide⟩
    · cases hr; exact ⟨q297, q298, rfl, rfl, rfl, rfl, rfl, rfl, rfl, by decide⟩
    · cases hr; exact ⟨q1456, q325, rfl, rfl, rfl, rfl, rfl, rfl, rfl, by decide⟩
    · cases hr; exact ⟨q1500, q326, rfl, rfl, rfl, rfl, rfl, rfl, rfl, by decide⟩
  obtain ⟨kw0, kw1, a1, a2, a3, a4, b1, b2, b3, k4⟩ := key
  have howns : e.platform.frameOwnsMonitors = true := by rw [X0.admits.platform]
  have hfin : e.platform.finalization = false := by rw [X0.admits.platform]
  have hpl : e.platform.magicAccessors = ({} : Platform).magicAccessors := by rw [X0.admits.platform]
  have htr : e.platform.stackTraces = false := by
    rw [X0.admits.platform]
    exact flags_off (by rw [hle]; exact hB.2.2.2.2.2.2.2.2.2.1)
  obtain ⟨T, Z0, LT, -, Y⟩ := ThrowableC.of_atoms (args := args) howns hfin hpl (thr_atoms hB hts)
  -- the static
  obtain ⟨v, -, v2, v4, cf, kf, fi, f, aS, cellS, g1, g2, g3, g4, g5, g6, g7, g8⟩ := hB.2.2.2.2.2.1 0 _ rfl
  cases g1.symm.trans Y.unassigned
  cases g4.symm.trans LT.statics
  have hv := v4 rfl
  subst hv
  have hvr : (svN E).isRef = true := by
    unfold svN
    split <;> rfl
  have hcellS : V.heap[T.aS]? = some cellS := by
    rw [hS.2.1 T.aS (Array.getElem?_eq_some_iff.mp g5).1 g8]
    exact g5
  have hneS : T.aS ≠ a := fun e => g8 (by rw [e]; exact hba)
  have hknownS : cellS.vm ≠ .unknown := fun e => by rw [e] at g6; cases g6
  -- the class, the fields
  obtain ⟨hfc, kC, hkC, hkind⟩ := (hB.1 t r0 hr).1
  have hvp : ∀ (k : Nat) (x : Value), nth fs k = some x → vp_V fs k = x := by
    intro k x hk
    rw [nth_eq] at hk
    simp [vp_V, List.getD, hk]
  obtain ⟨cf1, kf1, fi1, fd1, hi1, hs1, hst1⟩ := (hB.1 t r0 hr).2 1 (by omega)
  rw [a1, a2, a3] at hi1
  cases hi1.symm.trans Y.stack
  have hvS : cell.slots[T.fStack.slot]? = some (svN E) := by
    rw [hs1, hval 1 (by omega), hvp 1 _ hv1]
  have hin := CL_in t r0 hr (by omega)
  have hlay : (Jvm.Cond.lays r0.1 Bundle.tN "stackTrace" Bundle.steD).before args s = true := by
    have h9 := hts _ (hin _ (u_in_lay (show 1 < r0.2.2 by omega)))
    unfold u_lay at h9
    rw [a1, a2, a3, a4] at h9
    exact h9
  obtain ⟨tyS, -, -, -⟩ := Cond.laysAt hfc hkC Y.stack hlay
  have htS : Takes s cell T.fStack (svN E) := by
    refine ⟨k2_hasslot hvS, ?_⟩
    rw [hcls, hvmn]
    have hfits : fits T.fStack.type (svN E) = true := by rw [Y.stackType]; exact fits_refV_array _ ⟨svN E, hvr⟩
    simp [State.fitsSlot, State.slotType?, hkC, hkind, tyS, hfits]
  obtain ⟨ci198, i198, fB, hk198, hg198, ha198, hsB, -, hnB, htB, hffB⟩ := Cond.ownField (t := .object "java/lang/Object") Y.found LT.cls (by decide +kernel) (hts _ q309) (hts _ q308) e.platform hpl
  obtain ⟨cf4, kf4, fi4, fd4, hi4, hs4, hst4⟩ := (hB.1 t r0 hr).2 4 k4
  rw [b1, b2, b3] at hi4
  cases hi4.symm.trans hffB
  have hback : cell.slots[fB.slot]? = some .null := by
    rw [hs4, hval 4 k4, hvp 4 _ hv4]
  have hskip : SkipFacts T e.platform s (fun u => u) ⟨svN E, hvr⟩ (cell.withEntry V.cur) := ⟨{ ci198 := ci198, i198 := i198, fBack := fB }, ⟨hk198, hg198, ha198, hsB⟩, hback, fun _ _ => rfl⟩
  -- selections
  have hsel0 : selectMethod e.platform s.vm cell.cls T.fill0 = .method T.fill0 := by
    obtain ⟨c2, r2, m2, q1, q2, q3, q4, -⟩ := Cond.selects_spec (hts _ kw0)
    cases hfc.symm.trans q1
    cases q2.symm.trans (State.methodFound?_of_named Y.fill0 (by decide))
    cases q3.symm.trans Y.fill0
    rw [Launch.admits_selectMethod X0.admits, hcls]
    exact q4
  obtain ⟨c2, r2, m2, q1, q2, q3, q4, mk, hmk, hmki⟩ := Cond.selects_spec (hts _ kw1)
  cases hfc.symm.trans q1
  cases q2.symm.trans (State.methodFound?_of_named Y.fill (by decide))
  cases q3.symm.trans Y.fill
  have hselF : selectMethod e.platform s.vm cell.cls T.fill = .method T.fill := by
    rw [Launch.admits_selectMethod X0.admits, hcls]
    exact q4
  obtain ⟨vm1, X1, step1⟩ := X0.invokevirtualUp hx hown (hts _ hl) (hts _ q320) (by decide) Y.fill (LT.method LT.fillAt) LT.fillStatic hcell hvm.ns hselF (LT.method LT.fillAt) LT.fillAbstract hmk hmki (g := F0 m pc ls (.ref a :: st)) rfl (argsL := []) (rest := st) (by rw [LT.fillParams]; rfl) rfl (by rw [hb]; exact hd)
  -- room
  have hg : (F0 m pc ls st).method = m := rfl
  have hA : At (V.setVm vm1) (F0 m pc ls st).method c below := X1.here
  have hfr' : (V.setVm vm1).frames.length + 2 < (e.platform.stackLimits (V.setVm vm1).me).1 := X1.framesAbove (by omega)
  have hwd' : (stackUse (.java (F0 m pc ls st) :: (V.setVm vm1).frames.tail)).2 + 60 ≤ (e.platform.stackLimits (V.setVm vm1).me).2 := X1.stackAbove (g := F0 m pc ls st) (hlr.1.trans hml.symm) (K := 60) (by show 2 * 0 + (st.map fun v => v.category).sum + 60 ≤ R.locals; omega)
  have htop : (V.setVm vm1).topJava?.isSome := hA.top
  obtain ⟨g₀, hg0⟩ := Option.isSome_iff_exists.mp htop
  obtain ⟨tl0, htl0⟩ := State.topJava?_eq_some.mp hg0
  have hlen0 : (V.setVm vm1).frames.length = (Frame.java (F0 m pc ls st) :: (V.setVm vm1).frames.tail).length := by rw [htl0]; rfl
  have hfg : ((V.setVm vm1).setTop (F0 m pc ls st)).frames = .java (F0 m pc ls st) :: (V.setVm vm1).frames.tail := by rw [State.frames_setTop _ htl0, htl0]; rfl
  have hroom : e.platform.stackFull ((((V.setVm vm1).setTop (F0 m pc ls st)).threads[((V.setVm vm1).setTop (F0 m pc ls st)).cur]?).getD { frames := [] }) ((V.setVm vm1).setTop (F0 m pc ls st)).frames (1 + 2) = false :=
    roomAbove (pushed := []) (base := .java (F0 m pc ls st) :: (V.setVm vm1).frames.tail) (free := 60) (lim := e.platform.stackLimits (V.setVm vm1).me) hfg (State.stackLimits_setTop _ htop _) (by rw [← hlen0]; simp only [List.length_nil]; omega) hwd' (by simp only [stackUse_nil]; omega)
  have howner : cell.monitor.owner = none := by rw [hmon]
  have hcount : cell.monitor.count = 0 := by rw [hmon]
  obtain ⟨vm2, hW2, st2⟩ := Steps.fillColdAnyV p (V := V.setVm vm1) (g := F0 m pc ls st) (c := c) (self := a) hA hx T LT X1.warmed (Nn := fun u => u) heapOnly_id (fun _ _ => rfl) (fun _ => rfl) (fun u x y => setCell_twice _ _ _ _)
    (cell := cell) (cellS := cellS) (cN := cell.withEntry V.cur) (u0 := ⟨svN E, hvr⟩) (ig := .invokevirtual i) (len := 3) [] hcell hvm.ns hvm.1 (Or.inl howner) hvS hsel0 hcellS hneS hknownS g7 (fun _ hu => hu) (fun _ hu => hu) rfl rfl rfl rfl htS (by rw [hb]; exact hd)
    (fun _ vm3 hW3 hA3 t' hs => by
      have htopE : (((V.setVm vm1).setVm vm3).setCell a (cell.withEntry ((V.setVm vm1).setVm vm3).cur)).topJava?.isSome := htop
      have hfF : (fillInside ((V.setVm vm1).setVm vm3) (F0 m pc ls st) T.fill a cell).frames = .java (entryFrameSync T.fill #[.ref a] 1 a) :: .java (F0 m pc ls st) :: (V.setVm vm1).frames.tail := frames_entered (g := F0 m pc ls st) htopE _
      have htopF : (fillInside ((V.setVm vm1).setVm vm3) (F0 m pc ls st) T.fill a cell).topJava?.isSome := by rw [State.topJava?_of_frames hfF]; rfl
      have hlimF : e.platform.stackLimits (fillInside ((V.setVm vm1).setVm vm3) (F0 m pc ls st) T.fill a cell).me = e.platform.stackLimits (V.setVm vm1).me := by
        rw [State.stackLimits_pushFrame, State.stackLimits_setTop _ htopE]
        rfl
      have hw : (stackUse [Frame.java (fillJ T.fill a 16 [])]).2 ≤ 20 := by
        rw [stackUse_java, stackUse_nil]
        simp [operandWords]
      exact LT.nativeOff p htr hA3 hW3 (roomAbove (pl := e.platform) (u := (fillInside ((V.setVm vm1).setVm vm3) (F0 m pc ls st) T.fill a cell).setTop (fillJ T.fill a 16 [])) (vars := nativeFrameWords "java/lang/Throwable" "fillInStackTrace" 2) (pushed := [.java (fillJ T.fill a 16 [])]) (base := .java (F0 m pc ls st) :: (V.setVm vm1).frames.tail) (free := 60) (lim := e.platform.stackLimits (V.setVm vm1).me) (State.frames_setTop _ hfF) (by rw [State.stackLimits_setTop _ htopF]; exact hlimF)
        (by rw [← hlen0]; simp only [List.length_cons, List.length_nil]; omega) hwd' (by
          have : nativeFrameWords "java/lang/Throwable" "fillInStackTrace" 2 ≤ 20 := by decide
          omega)) hs)
    hroom hskip
  have hend : ((cell.withEntry V.cur).setSlot T.fStack.slot (svN E)).left = cell := by
    rw [Cell.left_setSlot, Cell.left_withEntry V.cur howner hcount, Cell.setSlot_same hvS]
  rw [hend] at st2
  have hself : ((V.setVm vm1).setVm vm2).setCell a cell = (V.setVm vm1).setVm vm2 := by
    have hh : V.heap.setIfInBounds a cell = V.heap := by
      apply Array.ext_getElem?
      intro q
      rw [Array.getElem?_setIfInBounds]
      by_cases e : a = q
      · subst e
        rw [if_pos rfl, if_pos (Array.getElem?_eq_some_iff.mp hcell).1, hcell]
      · rw [if_neg e]
    show ({ (V.setVm vm1).setVm vm2 with heap := V.heap.setIfInBounds a cell } : State) = _
    rw [hh]
    rfl
  rw [hself] at st2
  have X2 := X1.noted hW2
  have hk := JM _ _ _ _ hf ((V.setVm vm1).setVm vm2).heap locs ls hR hS hlr
  obtain ⟨t2, e1, e2⟩ := (W_tight hk) ((V.setVm vm1).setVm vm2) rfl X2
  refine ⟨t2, step1 t2 (fun acts => ?_), e2⟩
  rw [doInvoke_state]
  exact st2 _ e1
end FILL
