/-! System.arraycopy -/
theorem cpy_slots (fs gs : List Value) (cd cs : Cell) (sp dp n : Nat) (h1 : cs.slots = fs.toArray) (h2 : cd.slots = gs.toArray) (hs : sp + n ≤ fs.length) (hd : dp + n ≤ gs.length) : (cd.storeRun dp (cs.stretch sp n)).slots = (cpyL fs sp gs dp n).toArray := by
  apply Array.ext_getElem?
  intro j
  rw [Cell.storeRun_get _ _ _ _ (by rw [Cell.stretch_length, h2]; simpa using hd), Cell.stretch_length, h2]
  simp only [List.getElem?_toArray, cpyL]
  have e1 : (List.take dp gs).length = dp := by simp; omega
  have e2 : (List.take n (List.drop sp fs)).length = n := by simp; omega
  by_cases hj1 : j < dp
  · rw [if_neg (by omega), List.getElem?_append_left (by rw [List.length_append, e1, e2]; omega), List.getElem?_append_left (by rw [e1]; exact hj1), List.getElem?_take, if_pos hj1]
  · by_cases hj2 : j < dp + n
    · rw [if_pos ⟨by omega, hj2⟩, List.getElem?_append_left (by rw [List.length_append, e1, e2]; exact hj2), List.getElem?_append_right (by rw [e1]; omega), e1, List.getElem?_take, if_pos (by omega), List.getElem?_drop]
      unfold Cell.stretch
      rw [List.getElem?_map, List.getElem?_range (by omega)]
      have hlt : sp + (j - dp) < fs.length := by omega
      simp [h1, Array.getD_eq_getD_getElem?, hlt]
    · rw [if_neg (by omega), List.getElem?_append_right (by rw [List.length_append, e1, e2]; omega), List.length_append, e1, e2, List.getElem?_drop]
      congr 1
      omega
section COPY
variable {E : Ev} {p : Program} {l : Launch} {e : Env} {R : Room} {s : State} {m : MethodId} {args : Array Value} {below : List Frame} {meth : Method} {c : Code} {own : String} {cc : ByteArray} {nL d u0 : Nat} {ini : Bool} {Qf : State → Prop}
variable {C : List Ent} {Hd : List (Nat × Nat × Nat × Nat)} {J : Cuts} {K : KSem} {Q : Post} {X : XPost} {r : List Ent → LSt} {pc : Nat} {aux : List Nat} {cs : List Ent} {L : List Sl} {st : List Value} {g : Hp}
theorem AT_small {t : Nat} {ty : FieldType} (h1 : 100 ≤ t) (h2 : t ≤ 105) (hj : ATL[t - 100]? = some ty) : (t = 100 ∧ ty = .byte) ∨ (t = 101 ∧ ty = .char) ∨ (t = 102 ∧ ty = .int) ∨ (t = 103 ∧ ty = .boolean) ∨ (t = 104 ∧ ty = .long) ∨ (t = 105 ∧ ty = .object "java/lang/Object") := by
  have : t = 100 ∨ t = 101 ∨ t = 102 ∨ t = 103 ∨ t = 104 ∨ t = 105 := by omega
  rcases this with rfl | rfl | rfl | rfl | rfl | rfl <;> (cases hj; simp)
theorem el_fits {t : Nat} {ty : FieldType} {v : Value} (h1 : 100 ≤ t) (h2 : t ≤ 105) (hj : ATL[t - 100]? = some ty) (h : elOK g t v) : fits ty v = true := by
  obtain ⟨a1, a2, a3, a4, a5, a6⟩ := h
  rcases AT_small h1 h2 hj with ⟨rfl, rfl⟩ | ⟨rfl, rfl⟩ | ⟨rfl, rfl⟩ | ⟨rfl, rfl⟩ | ⟨rfl, rfl⟩ | ⟨rfl, rfl⟩
  · obtain ⟨x, rfl, hx⟩ := a1 rfl; exact (Nrw_byte hx).2
  · obtain ⟨x, rfl, hx⟩ := a2 rfl; exact (Nrw_char hx).2
  · obtain ⟨x, rfl⟩ := a3 rfl; rfl
  · obtain ⟨x, rfl, hx⟩ := a4 rfl; exact (Nrw_bool hx).2
  · obtain ⟨x, rfl⟩ := a5 rfl; rfl
  · rcases a6 (by omega) with rfl | ⟨y, cy, rfl, -⟩ <;> rfl
theorem s_copy {i z : Nat} (cx : CX E p l R s m args meth c own cc nL d u0 ini) (hd : decode cc pc = .ok (.invokestatic i, 3)) (hl : Jvm.Cond.methodLink own i arraycopyName ∈ lw_all) (hn : nextOK (pc + 3) cs) (JM : ∀ t L st g, jmp C J r t L st g → Zs E p l e R s m args below meth c nL Qf t L st g) (h : wpS E C Hd J K d Q X r pc (.invokestatic i) [z] cs L st g) : Zs E p l e R s m args below meth c nL Qf pc L st g := by
  obtain ⟨hx, hb, hml, hown, hts, hB, hlk, hz0, hfr, hlo, hce, hsl, hini, hle⟩ := cx
  dsimp only [wpS] at h
  split at h
  case h_2 => exact h.elim
  rename_i n0 q0 b k0 a st
  obtain ⟨hsh, hd2, t, fs, w, gs, w', ha, hb0, h1, h5, n, q, k, rfl, rfl, rfl, hn3, hq3, hk3, hkn, hqn, hf⟩ := hdp_ok h hn
  intro H locs ls hR hS hlr T hT X0
  subst hT
  obtain ⟨ty, -, hj, cs1, hc1, hcls1, hvm1, hsl1⟩ := (hR.1 a _ ha).arr (by show 100 ≤ t; omega)
  obtain ⟨ty', -, hj', cd1, hc2, hcls2, hvm2, hsl2⟩ := (hR.1 b _ hb0).arr (by show 100 ≤ t; omega)
  cases hj.symm.trans hj'
  dsimp only at hj hcls1 hcls2 hsl1 hsl2
  obtain ⟨kA, comp, hkA, hkk⟩ : ∃ (kA : Class) (comp : ClassId), s.vm.classes[eA E (t - 100)]? = some kA ∧ kA.kind = .array comp ty := by
    obtain ⟨-, k9, hk9, comp, hkind⟩ := arrOf (a := a) (x := (t, fs, w)) hB hvm1 hcls1 hj
    rw [hcls1] at hk9
    exact ⟨k9, comp, hk9, hkind⟩
  have hnn : ∀ {u : Nat}, u < 2 ^ 31 → ¬ nI u < 0 ∧ (nI u).toNatClampNeg = u ∧ (nI u).toInt = (u : Int) := fun hu => ⟨nI_pos hu, nI_clamp hu, nI_toInt hu⟩
  have hgw := hR.2.2.2
  have hsum := short_sum hsh
  obtain ⟨vm', X', step⟩ := X0.arraycopy hx hown (hts _ hl) (hts _ q383) (hts _ q382) (hts _ q126) (src := a) (dst := b) (cs := cs1) (cd := cd1) (srcPos := nI k) (destPos := nI q) (n := nI n) hc1 hc2 hvm1.ns hvm2.ns hvm1.1 hvm2.1
    (by rw [hcls1]; exact hkA) (by rw [hcls2]; exact hkA) hkk hkk (by simp) (hnn hk3).1 (hnn hq3).1 (hnn hn3).1
    (by rw [(hnn hk3).2.2, (hnn hn3).2.2, hsl1]; simp; omega) (by rw [(hnn hq3).2.2, (hnn hn3).2.2, hsl2]; simp; omega)
    (fun vm₁ hvm9 i9 hi9 => by
      rw [(hnn hn3).2.1] at hi9
      rw [(hnn hk3).2.1]
      have hlt : k + i9 < fs.length := by omega
      have e9 : cs1.slots.getD (k + i9) .null = fs[k + i9] := by
        rw [hsl1, Array.getD_eq_getD_getElem?]
        simp [hlt]
      rw [e9]
      have hel := hgw a t fs w h1 ha _ (List.getElem_mem hlt)
      refine ⟨el_fits h1 h5 hj hel, ?_⟩
      rcases AT_small h1 h5 hj with ⟨rfl, rfl⟩ | ⟨rfl, rfl⟩ | ⟨rfl, rfl⟩ | ⟨rfl, rfl⟩ | ⟨rfl, rfl⟩ | ⟨rfl, rfl⟩
      · obtain ⟨x, hx9, -⟩ := hel.1 rfl; rw [hx9]; exact trivial
      · obtain ⟨x, hx9, -⟩ := hel.2.1 rfl; rw [hx9]; exact trivial
      · obtain ⟨x, hx9⟩ := hel.2.2.1 rfl; rw [hx9]; exact trivial
      · obtain ⟨x, hx9, -⟩ := hel.2.2.2.1 rfl; rw [hx9]; exact trivial
      · obtain ⟨x, hx9⟩ := hel.2.2.2.2.1 rfl; rw [hx9]; exact trivial
      · rcases hel.2.2.2.2.2 (by omega) with hx9 | ⟨y, cy, hx9, hy0, hya⟩
        · rw [hx9]; exact trivial
        · rw [hx9]
          obtain ⟨r0, C8, hr0, hj8, hcs⟩ := asg_ok hya
          cases hj.symm.trans hj8
          obtain ⟨celly, y1, y2, y3, y4⟩ := cls_known hB hR hy0 hr0
          obtain ⟨hfc, kC, hkC, hkind⟩ := (hB.1 cy.1 r0 hr0).1
          have ec : celly.cls = eC E cy.1 := Option.some.inj (y3.symm.trans hfc)
          obtain ⟨kA9, comp9, k1, k2, k3, k4⟩ := RA_ref hB hj
          cases hkA.symm.trans k1
          have hcc : comp9 = comp := by rw [hkk] at k2; cases k2; rfl
          subst hcc
          have hasg : s.vm.assignable (eC E cy.1) comp9 = true := by
            rcases hcs with hcs | hcs
            · rw [hcs] at hfc
              cases hfc.symm.trans k3
              exact va_assign (hB.1 cy.1 r0 hr0).1
            · obtain ⟨c3, c4, g3, g4, g5⟩ := Cond.castable_spec (nw_use (args := args) hB hcs rfl)
              cases hfc.symm.trans g3
              cases k3.symm.trans g4
              exact g5
          obtain ⟨kcomp, hkcomp, -⟩ := Vm.findClass_spec k3
          obtain ⟨kcomp', hkcomp', -⟩ := hvm9.2.2 _ _ hkcomp
          obtain ⟨kC', hkC', -⟩ := hvm9.2.2 _ _ hkC
          exact ⟨celly, y1, fun q9 e => (by rw [e] at y2; cases y2), ⟨kC', by rw [ec]; exact hkC'⟩, ⟨kcomp', hkcomp'⟩, by rw [ec]; exact (by rw [← hasg]; exact hvm9.assignable _ _)⟩)
    (g := F0 m pc ls (.int (nI n) :: .int (nI q) :: .ref b :: .int (nI k) :: .ref a :: st)) rfl (hlr.1.trans hml.symm) (rest := st) rfl (by rw [hb]; exact hd) (by omega) (by
      show 2 * 0 + _ + (nativeFrameWords "java/lang/System" "arraycopy" 5 + 11) ≤ R.locals
      have : nativeFrameWords "java/lang/System" "arraycopy" 5 ≤ 40 := by decide +kernel
      omega)
  have hcop : copied cs1 cd1 (nI k) (nI q) (nI n) = cd1.storeRun q (cs1.stretch k n) := by
    show cd1.storeRun (nI q).toNatClampNeg (cs1.stretch (nI k).toNatClampNeg (nI n).toNatClampNeg) = _
    rw [(hnn hk3).2.1, (hnn hq3).2.1, (hnn hn3).2.1]
  rw [hcop] at X' step
  have hfacts := Cell.storeRun_facts cd1 q (cs1.stretch k n)
  have hbl : b < T.heap.size := (Array.getElem?_eq_some_iff.mp hc2).1
  have hheap : ((T.setVm vm').setCell b (cd1.storeRun q (cs1.stretch k n))).heap = T.heap.setIfInBounds b (cd1.storeRun q (cs1.stretch k n)) := rfl
  have q1 : (T.heap.setIfInBounds b (cd1.storeRun q (cs1.stretch k n)))[b]? = some (cd1.storeRun q (cs1.stretch k n)) := by simp [Array.getElem?_setIfInBounds, hbl]
  have q3 : ∀ x : Nat, x ≠ b → (T.heap.setIfInBounds b (cd1.storeRun q (cs1.stretch k n)))[x]? = T.heap[x]? := fun x hx9 => by simp [Array.getElem?_setIfInBounds, Ne.symm hx9]
  have q2 : (T.heap.setIfInBounds b (cd1.storeRun q (cs1.stretch k n))).size = T.heap.size := by simp
  have hp : Put g (g.1, fun x => if x = b then some (t, cpyL fs k gs q n, some w') else g.2 x) b (t, cpyL fs k gs q n, some w') := ⟨rfl, by simp, fun x hx9 => by simp [hx9]⟩
  have hR1 : Rel E (g.1, fun x => if x = b then some (t, cpyL fs k gs q n, some w') else g.2 x) (T.heap.setIfInBounds b (cd1.storeRun q (cs1.stretch k n))) := by
    refine hR.put hp hb0 rfl (Or.inr (Or.inl ⟨ty, h1, hj, _, q1, by rw [hfacts.1]; exact hcls2, ⟨by rw [hfacts.2.1]; exact hvm2.1, by rw [hfacts.2.1]; exact hvm2.2.1, fun _ => by rw [hfacts.2.1, hfacts.2.2.2.2]; exact hvm2.2.2 (by simp)⟩, cpy_slots fs gs cd1 cs1 k q n hsl1 hsl2 hkn hqn⟩)) q2 (hsz_set hc2 q1 hfacts.2.2.1 q2 q3) q3 fun _ v hv => ?_
    have hv : v ∈ cpyL fs k gs q n := hv
    unfold cpyL at hv
    rcases List.mem_append.mp hv with hv | hv
    · rcases List.mem_append.mp hv with hv | hv
      · exact hgw b t gs _ h1 hb0 v (List.mem_of_mem_take hv)
      · exact hgw a t fs _ h1 ha v (List.mem_of_mem_drop (List.mem_of_mem_take hv))
    · exact hgw b t gs _ h1 hb0 v (List.mem_of_mem_drop hv)
  have hba := (hvm2.2.2 (by simp)).2.1
  have hlf : ∀ z9 ∈ locs ++ (cs1.stretch (nI k).toNatClampNeg (nI n).toNatClampNeg).zipIdx.map (fun u => (⟨b, (nI q).toNatClampNeg + u.2⟩ : Loc)), eB E ≤ z9.base := by
    intro z9 hz9
    rcases List.mem_append.mp hz9 with hz9 | hz9
    · exact hS.2.2 z9 hz9
    · obtain ⟨u, -, hu⟩ := List.mem_map.mp hz9
      rw [← hu]
      exact hba
  have hk := JM _ _ _ _ (hf _ hp) _ _ ls hR1 (S_stand X' hlf) hlr
  obtain ⟨t2, a1, a2⟩ := (W_tight hk) _ rfl X'
  exact ⟨t2, step t2 a1, a2⟩
/-- a byte array's clone -/
theorem s_clone {i z : Nat} (cx : CX E p l R s m args meth c own cc nL d u0 ini) (hd : decode cc pc = .ok (.invokevirtual i, 3)) (hl : Jvm.Cond.methodLink own i ⟨"[B", "clone", "()Ljava/lang/Object;"⟩ ∈ lw_all) (hn : nextOK (pc + 3) cs) (JM : ∀ t L st g, jmp C J r t L st g → Zs E p l e R s m args below meth c nL Qf t L st g) (h : wpS E C Hd J K d Q X r pc (.invokevirtual i) [z] cs L st g) : Zs E p l e R s m args below meth c nL Qf pc L st g := by
  obtain ⟨hx, hb, hml, hown, hts, hB, hlk, hz0, hfr, hlo, hce, hsl, hini, hle⟩ := cx
  dsimp only [wpS] at h
  split at h
  case h_2 => exact h.elim
  rename_i a st
  obtain ⟨hsh, hd1, fs, w, ha, hlim, hf⟩ := hdp_ok h hn
  intro H locs ls hR hS hlr
  refine W_le fun hle1 hle2 => ?_
  intro T hT X0
  subst hT
  obtain ⟨hc1, hc2⟩ := room_new hz0 hce hsl hR hlim hle1 hle2
  obtain ⟨ty, -, hj, cs1, hcell, hcls, hvm, hsl1⟩ := (hR.1 a _ ha).arr (Nat.le_refl 100)
  dsimp only at hj hcls hsl1
  have hty : ty = .byte := by cases hj; rfl
  subst hty
  obtain ⟨kA, comp, hkA, hkk⟩ : ∃ (kA : Class) (comp : ClassId), s.vm.classes[eA E 0]? = some kA ∧ kA.kind = .array comp .byte := by
    obtain ⟨-, k9, hk9, comp, hkind⟩ := arrOf (j := 0) (a := a) (x := (100, fs, w)) hB hvm hcls hj
    rw [hcls] at hk9
    exact ⟨k9, comp, hk9, hkind⟩
  have hra : s.vm.findClass "[B" = some (eA E 0) := (hB.2.1 0 .byte hj).2
  obtain ⟨c3, c4, g3, g4, g5⟩ := Cond.castable_spec (nw_use (args := args) hB q376 rfl)
  cases hra.symm.trans g3
  have hsum := short_sum hsh
  have hgw := hR.2.2.2
  have hfs : T.fitsSlot = s.fitsSlot := (show T.fitsSlot = (s.setVm T.vm).fitsSlot from rfl).trans (State.fitsSlot_setVm X0.warmed.alike)
  obtain ⟨vm', X', step⟩ := X0.cloneArray hx hown (hts _ hl) (hts _ q372) (hts _ q373) (hts _ q374) (hts _ q375) hcell hvm.ns hvm.1 (by rw [hcls]; exact hra) g4 (by rw [hcls]; exact g5)
    (fun i9 v9 hv => by
      rw [hfs]
      have hmem : v9 ∈ fs := by
        rw [hsl1] at hv
        simp only [List.getElem?_toArray] at hv
        exact List.mem_of_getElem? hv
      have := el_fits (Nat.le_refl 100) (by omega) hj (hgw a 100 fs w (Nat.le_refl 100) ha v9 hmem)
      have hcls : cs1.cls = eA E 0 := hcls
      rw [hcls]
      simp [State.fitsSlot, State.slotType?, hkA, hkk, this])
    (g := F0 m pc ls (.ref a :: st)) rfl (hlr.1.trans hml.symm) (rest := st) rfl (by rw [hb]; exact hd) (by omega) (by show 2 * 0 + _ + 14 ≤ R.locals; omega) hc1 (by rw [hsl1]; simpa using hc2) (hloader := Vm.clonesLoader_of_array (by rw [hcls]; exact hkA) hkk)
  obtain ⟨w9, hf⟩ := hf T.heap.size hR.free
  have hnew := New.mk (c := (100, fs, some w9)) (n := fs.length) hR.free
  have hR1 := hR.new (H' := T.heap.push { cls := cs1.cls, slots := cs1.slots }) hnew
    (Or.inr (Or.inl ⟨.byte, Nat.le_refl 100, hj, { cls := cs1.cls, slots := cs1.slots }, by rw [Array.getElem?_push]; exact if_pos rfl, hcls, ⟨fun h => by (cases h), rfl, fun _ => ⟨rfl, by have := hB.2.2.2.2.2.2.2.2.2.2; omega, rfl⟩⟩, hsl1⟩)) (by simp) (by rw [hsz_push, hsl1]; simp) (fun q hq => by rw [Array.getElem?_push]; exact if_neg (by omega)) hlim (fun _ v hv => hgw a 100 fs w (Nat.le_refl 100) ha v hv)
  have hk := JM _ _ _ _ (hf _ hnew) _ _ ls hR1 (S_push hS (by simp) (fun q hq => by rw [Array.getElem?_push]; exact if_neg (by omega))) hlr
  obtain ⟨t2, a1, a2⟩ := (W_tight hk) _ rfl X'
  exact ⟨t2, step t2 a1, a2⟩
/-- a class's mirror -/
theorem s_ldcM {i k : Nat} {n : String} (cx : CX E p l R s m args meth c own cc nL d u0 ini) (hd : decode cc pc = .ok (.ldc i, 2)) (hm : nth MIRL k = some n) (hl : Jvm.Cond.classLink own i n ∈ lw_all) (A : ∀ L st g, arr J r cs L st g → Zs E p l e R s m args below meth c nL Qf (pc + 2) L st g) (h : wpS E C Hd J K d Q X r pc (.ldc i) [2, k] cs L st g) : Zs E p l e R s m args below meth c nL Qf pc L st g := by
  obtain ⟨hx, hb, hml, hown, hts, hB, hlk, hz0, hfr, hlo, hce, hsl, hini, hle⟩ := cx
  dsimp only [wpS] at h
  intro H locs ls hR hS hlr T hT X0
  subst hT
  obtain ⟨vm', X', step⟩ := X0.ldcMirror hx hown (hts _ hl) (hB.2.2.2.2.2.2.1.2.1.eval hm) (g := F0 m pc ls st) rfl (by rw [hb]; exact hd)
  have hk := A _ _ _ h (T.setVm vm').heap locs ls hR hS hlr
  obtain ⟨t2, a1, a2⟩ := (W_tight hk) (T.setVm vm') rfl X'
  exact ⟨t2, step t2 a1, a2⟩
theorem s_getC {i z1 z2 z3 : Nat} (cx : CX E p l R s m args meth c own cc nL d u0 ini) (hd : decode cc pc = .ok (.invokevirtual i, 3)) (hl : Jvm.Cond.methodLink own i ⟨"java/lang/Object", "getClass", "()Ljava/lang/Class;"⟩ ∈ lw_all) (hn : nextOK (pc + 3) cs) (JM : ∀ t L st g, jmp C J r t L st g → Zs E p l e R s m args below meth c nL Qf t L st g) (h : wpS E C Hd J K d Q X r pc (.invokevirtual i) [z1, z2, z3] cs L st g) : Zs E p l e R s m args below meth c nL Qf pc L st g := by
  obtain ⟨hx, hb, hml, hown, hts, hB, hlk, hz0, hfr, hlo, hce, hsl, hini, hle⟩ := cx
  dsimp only [wpS] at h
  split at h
  case h_2 => exact h.elim
  rename_i a st
  obtain ⟨hsh, hd1, fs, w, ha, hf⟩ := hdp_ok h hn
  intro H locs ls hR hS hlr T hT X0
  subst hT
  obtain ⟨ty, -, hj, cs1, hcell, hcls, hvm, hsl1⟩ := (hR.1 a _ ha).arr (by show 100 ≤ 105; omega)
  dsimp only at hj hcls hsl1
  have hty : ty = .object "java/lang/Object" := by cases hj; rfl
  subst hty
  have hra : s.vm.findClass "[Ljava/lang/Object;" = some (eA E 5) := by
    obtain ⟨-, -, -, -, -, h9⟩ := (hB.2.1 5 _ hj).2
    exact h9
  have hsum := short_sum hsh
  obtain ⟨vm', X', step⟩ := X0.getClass hx hown (hts _ hl) (hts _ q940) (hts _ q989) (hts _ q939) (C := "[Ljava/lang/Object;") (hts _ q3875) hcell hvm.ns (by rw [hcls]; exact hra) (hB.2.2.2.2.2.2.1.2.1.eval (i := 0) rfl)
    (g := F0 m pc ls (.ref a :: st)) rfl (hlr.1.trans hml.symm) (rest := st) rfl (by rw [hb]; exact hd) (by omega) (by show 2 * 0 + _ + 14 ≤ R.locals; omega)
  have hk := JM _ _ _ _ hf (T.setVm vm').heap locs ls hR hS hlr
  obtain ⟨t2, a1, a2⟩ := (W_tight hk) (T.setVm vm') rfl X'
  exact ⟨t2, step t2 a1, a2⟩
theorem sel_face {C I : String} {args : Array Value} {s : State} (h : (Jvm.Cond.selects C Stand.gcN Stand.gcN).before args s = true) (hi : (Jvm.Cond.interfaceMethod I "java/lang/Object" "getClass" "()Ljava/lang/Class;").before args s = true) : (Jvm.Cond.selects C ⟨I, "getClass", "()Ljava/lang/Class;"⟩ Stand.gcN).before args s = true := by
  obtain ⟨c, r, m, q1, q2, q3, q4, mk, q5, q6⟩ := Cond.selects_spec h
  obtain ⟨cL, kL, r1, hcL, hkL, hiL, hfoundL, hn1⟩ := Cond.interfaceMethod_spec hi
  cases (State.methodFound?_of_named q3 (by decide)).symm.trans q2
  cases q3.symm.trans hn1
  simp [Cond.before, Cond.holds, Cond.value, q1, hfoundL, q3, q4, q5, q6]
theorem s_getCI {i j z1 z2 z3 : Nat} (cx : CX E p l R s m args meth c own cc nL d u0 ini) (hd : decode cc pc = .ok (.invokeinterface i j, 5)) (hl : Jvm.Cond.methodLink own i ⟨"java/util/Collection", "getClass", "()Ljava/lang/Class;"⟩ ∈ lw_all) (hn : nextOK (pc + 5) cs) (JM : ∀ t L st g, jmp C J r t L st g → Zs E p l e R s m args below meth c nL Qf t L st g) (h : wpS E C Hd J K d Q X r pc (.invokeinterface i j) [z1, z2, z3] cs L st g) : Zs E p l e R s m args below meth c nL Qf pc L st g := by
  obtain ⟨hx, hb, hml, hown, hts, hB, hlk, hz0, hfr, hlo, hce, hsl, hini, hle⟩ := cx
  dsimp only [wpS] at h
  split at h
  case h_2 => exact h.elim
  rename_i a st
  obtain ⟨hsh, hd1, fs, w, ha, hf⟩ := hdp_ok h hn
  intro H locs ls hR hS hlr T hT X0
  subst hT
  obtain ⟨rr, hr, -, cs1, hcell, hcls, hvm, -⟩ := (hR.1 a _ ha).inst (by show 28 < 40; omega)
  dsimp only at hcls
  have hat : ClassAt s "java/util/ArrayList" (eC E 28) := by
    have h9 := (hB.1 28 _ hr).1
    cases hr
    exact h9
  have hsum := short_sum hsh
  obtain ⟨g1, g2, g3, g4, g5⟩ := hB.2.2.2.2.2.2.1.2.2.1
  obtain ⟨cM, kM, m1, m2, m3⟩ := hB.2.2.2.2.2.2.1.2.1 1 "java/util/ArrayList" rfl
  have hcM : cM = eC E 28 := Option.some.inj (m1.symm.trans hat.1)
  subst hcM
  obtain ⟨vm', X', step⟩ := X0.getClassOfI hx hown (hts _ hl) (va_any rfl g1) (va_any rfl g2) (C := "java/util/ArrayList") (sel_face (hts _ q977) (va_any rfl g2)) (hts _ q939) (va_any rfl g3) (va_any rfl g4) (va_any rfl g5) (hts _ q989) (by decide) (by decide) rfl rfl
    m1 m2 ⟨cs1, hcell, hcls, hvm.2.1⟩ m3
    (g := F0 m pc ls (.ref a :: st)) rfl (hlr.1.trans hml.symm) (rest := st) rfl (by rw [hb]; exact hd) (by omega) (by
      show 2 * 0 + _ + (nativeFrameWords "java/lang/Object" "getClass" 1 + 11) ≤ R.locals
      have : nativeFrameWords "java/lang/Object" "getClass" 1 = 3 := by decide
      omega)
  have hk := JM _ _ _ _ hf (T.setVm vm').heap locs ls hR hS hlr
  obtain ⟨t2, a1, a2⟩ := (W_tight hk) (T.setVm vm') rfl X'
  exact ⟨t2, step t2 a1, a2⟩
end COPY
