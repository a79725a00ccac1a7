/-! statics, constants, making, casting, switches, copying -/
section HEAP3
variable {E : Ev} {p : Program} {l : Launch} {e : Env} {R : Room} {s : State} {m : MethodId} {args : Array Value} {below : List Frame} {meth : Method} {c : Code} {own : String} {cc : ByteArray} {nL d u0 : Nat} {ini : Bool} {Qf : State → Prop}
variable {C : List Ent} {Hd : List (Nat × Nat × Nat × Nat)} {J : Cuts} {K : KSem} {Q : Post} {X : XPost} {r : List Ent → LSt} {pc : Nat} {aux : List Nat} {cs : List Ent} {L : List Sl} {st : List Value} {g : Hp}
theorem s_getstatic {i k : Nat} {q : String × String × String} (cx : CX E p l R s m args meth c own cc nL d u0 ini) (hd : decode cc pc = .ok (.getstatic i, 3)) (hq : nth STL k = some q) (hl : fldL own i q) (A : ∀ L st g, arr J r cs L st g → Zs E p l e R s m args below meth c nL Qf (pc + 3) L st g) (h : wpS E C Hd J K d Q X r pc (.getstatic i) [k] cs L st g) : Zs E p l e R s m args below meth c nL Qf pc L st g := by
  obtain ⟨hx, hb, hml, hown, hts, hB, hlk, hz0, hfr, hlo, hce, hsl, hini, hle⟩ := cx
  dsimp only [wpS] at h
  obtain ⟨ref, hlink, hsame⟩ := hl
  obtain ⟨v, v1, v2, v4, hZ⟩ := hB.2.2.2.2.2.1 k q hq
  have h : Zs E p l e R s m args below meth c nL Qf (pc + 3) L (v :: st) g := by
    cases hu : stUsed k with
    | true =>
      rw [hu] at h
      rw [v1 hu]
      exact A _ _ _ (byV_ok (show byV (svV E k) (fun v => arr J r cs L (v :: st) g) from h))
    | false =>
      rw [hu] at h
      cases h0 : Nat.beq k 0 with
      | true =>
        rw [h0] at h
        rw [v4 (Nat.eq_of_beq_eq_true h0)]
        unfold svN
        by_cases e0 : sa E 500 = 0
        · rw [if_pos e0]; exact A _ _ _ (h.1 e0)
        · rw [if_neg e0]; exact A _ _ _ (h.2 e0)
      | false =>
        rw [h0] at h
        rcases v2 hu with rfl | ⟨a, rfl⟩
        · exact A _ _ _ h.1
        · exact A _ _ _ (h.2 a)
  intro H locs ls hR hS hlr
  rcases hlink with hlink | ⟨host, hlink⟩
  · exact va_gets hx hb hZ hS hown (hts _ hlink) (fld_same hts hsame) hd (h H locs ls hR hS hlr)
  · exact va_getsN hx hb hZ hS hown (nw_use hB hlink rfl) (fld_same hts hsame) hd (h H locs ls hR hS hlr)
theorem s_ldcI {i v : Nat} (cx : CX E p l R s m args meth c own cc nL d u0 ini) (hd : decode cc pc = .ok (.ldc i, 2)) (hl : Jvm.Cond.constant own i (nI v) ∈ lw_all) (A : ∀ L st g, arr J r cs L st g → Zs E p l e R s m args below meth c nL Qf (pc + 2) L st g) (h : wpS E C Hd J K d Q X r pc (.ldc i) [0, v] cs L st g) : Zs E p l e R s m args below meth c nL Qf pc L st g := by
  obtain ⟨hx, hb, hml, hown, hts, hB, hlk, hz0, hfr, hlo, hce, hsl, hini, hle⟩ := cx
  dsimp only [wpS] at h
  exact Zs.pure (fun _ _ _ _ _ _ => lv_ldc hx hb hown (hts _ hl) hd) (A _ _ _ h)
theorem s_ldcwI {i v : Nat} (cx : CX E p l R s m args meth c own cc nL d u0 ini) (hd : decode cc pc = .ok (.ldc_w i, 3)) (hl : Jvm.Cond.constant own i (nI v) ∈ lw_all) (A : ∀ L st g, arr J r cs L st g → Zs E p l e R s m args below meth c nL Qf (pc + 3) L st g) (h : wpS E C Hd J K d Q X r pc (.ldc_w i) [0, v] cs L st g) : Zs E p l e R s m args below meth c nL Qf pc L st g := by
  obtain ⟨hx, hb, hml, hown, hts, hB, hlk, hz0, hfr, hlo, hce, hsl, hini, hle⟩ := cx
  dsimp only [wpS] at h
  exact Zs.pure (fun _ _ _ _ _ _ => lv_ldcw hx hb hown (hts _ hl) hd) (A _ _ _ h)
theorem s_ldc2 {i : Nat} (cx : CX E p l R s m args meth c own cc nL d u0 ini) (hd : decode cc pc = .ok (.ldc2_w i, 3)) (hl : Jvm.Cond.constantLong own i (cstL aux) ∈ lw_all) (A : ∀ L st g, arr J r cs L st g → Zs E p l e R s m args below meth c nL Qf (pc + 3) L st g) (h : wpS E C Hd J K d Q X r pc (.ldc2_w i) aux cs L st g) : Zs E p l e R s m args below meth c nL Qf pc L st g := by
  obtain ⟨hx, hb, hml, hown, hts, hB, hlk, hz0, hfr, hlo, hce, hsl, hini, hle⟩ := cx
  dsimp only [wpS] at h
  exact Zs.pure (fun _ _ _ _ _ _ => lv_ldc2 hx hb hown (hts _ hl) hd) (A _ _ _ h)
theorem s_ldcS {i k : Nat} {tx : String} (cx : CX E p l R s m args meth c own cc nL d u0 ini) (hd : decode cc pc = .ok (.ldc i, 2)) (hl : nth STRL k = some (own, i, tx)) (A : ∀ L st g, arr J r cs L st g → Zs E p l e R s m args below meth c nL Qf (pc + 2) L st g) (h : wpS E C Hd J K d Q X r pc (.ldc i) [1, k] cs L st g) : Zs E p l e R s m args below meth c nL Qf pc L st g := by
  obtain ⟨hx, hb, hml, hown, hts, hB, hlk, hz0, hfr, hlo, hce, hsl, hini, hle⟩ := cx
  dsimp only [wpS] at h
  have hZ := hB.2.2.2.2.2.2.1.1 k _ hl
  exact Zs.pure (fun _ _ _ _ _ _ => va_ldcS hx hb hown hZ hd) (A _ _ _ h)
theorem room_new {H : Heap} {n : Nat} (hz0 : 5 * s.heap.size + hsz s.heap = eZ E + u0) (hce : (LIM - u0) / 5 ≤ R.cells) (hsl : LIM - u0 ≤ R.slots) (hR : Rel E g H) (hl : g.1 + 5 + n ≤ LIM) (h1 : s.heap.size ≤ H.size) (h2 : hsz s.heap ≤ hsz H) : H.size - s.heap.size + 1 ≤ R.cells ∧ hsz H - hsz s.heap + n ≤ R.slots := by
  have h3 := hR.2.1
  omega
theorem S_push {H0 H H1 : Heap} {locs : List Loc} (h : va_S (fun a => eB E ≤ a) H0 H locs) (hs : H1.size = H.size + 1) (ho : ∀ q : Nat, q < H.size → H1[q]? = H[q]?) : va_S (fun a => eB E ≤ a) H0 H1 locs :=
  ⟨by have := h.1; omega, fun q h1 h2 => by rw [ho q (by have := h.1; omega)]; exact h.2.1 q h1 h2, h.2.2⟩
theorem s_new {i t : Nat} {r0 : vw_C} (cx : CX E p l R s m args meth c own cc nL d u0 ini) (hd : decode cc pc = .ok (.new i, 3)) (hr : CL[t]? = some r0) (ht : t < 39) (hk : Jvm.Cond.classLink own i r0.1 ∈ lw_all) (hins : Jvm.Cond.instantiable r0.1 r0.2.2 ∈ lw_all) (hii : Jvm.Cond.initialized r0.1 ∈ lw_all) (hn : nextOK (pc + 3) cs) (JM : ∀ t L st g, jmp C J r t L st g → Zs E p l e R s m args below meth c nL Qf t L st g) (h : wpS E C Hd J K d Q X r pc (.new i) [t] cs L st g) : Zs E p l e R s m args below meth c nL Qf pc L st g := by
  obtain ⟨hx, hb, hml, hown, hts, hB, hlk, hz0, hfr, hlo, hce, hsl, hini, hle⟩ := cx
  dsimp only [wpS] at h
  split at h
  case h_2 => exact h.elim
  rename_i df hdf
  obtain ⟨hlim, hf⟩ := hdp_ok h hn
  intro H locs ls hR hS hlr
  refine W_le fun hle1 hle2 => ?_
  obtain ⟨hdl, hdv⟩ := DFT_ok hr hdf
  rw [hdl] at hlim hf
  obtain ⟨hc1, hc2⟩ := room_new hz0 hce hsl hR hlim hle1 hle2
  refine W.newc hx hb hown (hts _ hk) (hts _ hins) (hts _ hii) rfl hd hc1 hc2 fun cC kC g1 g2 g3 g4 => ?_
  obtain ⟨w, hf⟩ := hf H.size hR.free
  have hnew : New g (g.1 + 5 + r0.2.2, fun b => if b = H.size then some (t, df, some w) else g.2 b) H.size (t, df, some w) r0.2.2 := New.mk hR.free
  have hba : eB E ≤ H.size := by have := hB.2.2.2.2.2.2.2.2.2.2; omega
  have hcc : eC E t = cC := Option.some.inj ((hB.1 t r0 hr).1.1.symm.trans g1)
  have e1 : (H.push ({ cls := cC, slots := kC.instanceTypes.map defaultValue, vm := .none } : Cell))[H.size]? = some ({ cls := cC, slots := kC.instanceTypes.map defaultValue, vm := .none } : Cell) := by simp
  have o1 : ∀ q : Nat, q < H.size → (H.push ({ cls := cC, slots := kC.instanceTypes.map defaultValue, vm := .none } : Cell))[q]? = H[q]? := fun q hq => by rw [Array.getElem?_push, if_neg (Nat.ne_of_lt hq)]
  have hR1 : Rel E (g.1 + 5 + r0.2.2, fun b => if b = H.size then some (t, df, some w) else g.2 b) (H.push ({ cls := cC, slots := kC.instanceTypes.map defaultValue, vm := .none } : Cell)) := by
    refine hR.new hnew (Or.inl ⟨r0, hr, hdl, _, e1, hcc.symm, ⟨by simp, rfl, fun _ => ⟨rfl, hba, rfl⟩⟩, fun k hk9 => ?_⟩) (by simp) (by rw [hsz_push]; simp [g4]) o1 hlim (fun h9 => by
      have h9 : 100 ≤ t := h9
      omega)
    obtain ⟨cf, kf, fi, fd, hi, hs, hst⟩ := (hB.1 t r0 hr).2 k hk9
    obtain ⟨ty, hty, hdf9⟩ := hdv k hk9
    have h3 := (u_facts g1 g2 (u_lays hts (CL_in t r0 hr ht) hk9) hi).2.2
    rw [(State.fieldFound?_type hi hty).2] at h3
    rw [← hs]
    show (kC.instanceTypes.map defaultValue)[fd.slot]? = some (vp_V df k)
    rw [Array.getElem?_map, h3]
    simp [hdf9]
  exact W_tight (JM _ _ _ _ (hf _ hnew) _ locs ls hR1 (S_push hS (by simp) o1) hlr)
theorem nI_n {n : Nat} (h : n < 2 ^ 26) : ¬ nI n < 0 ∧ (nI n).toNatClampNeg = n := ⟨nI_pos (by omega), nI_clamp (by omega)⟩
theorem mk_arr {H : Heap} {t n w : Nat} {cA : ClassId} {ty : FieldType} {v : Value} (hB : Base E s s.heap) (hle1 : s.heap.size ≤ H.size) (hR : Rel E g H) (h1 : 100 ≤ t) (hj : ATL[t - 100]? = some ty) (hcA : cA = eA E (t - 100)) (hlim : g.1 + 5 + n ≤ LIM) (hv : elOK g t v) :
    New g (g.1 + 5 + n, fun b => if b = H.size then some (t, List.replicate n v, some w) else g.2 b) H.size (t, List.replicate n v, some w) n ∧ Rel E (g.1 + 5 + n, fun b => if b = H.size then some (t, List.replicate n v, some w) else g.2 b) (H.push ({ cls := cA, slots := Array.replicate n v, vm := .none } : Cell)) ∧ ∀ q : Nat, q < H.size → (H.push ({ cls := cA, slots := Array.replicate n v, vm := .none } : Cell))[q]? = H[q]? := by
  have hnew : New g (g.1 + 5 + n, fun b => if b = H.size then some (t, List.replicate n v, some w) else g.2 b) H.size (t, List.replicate n v, some w) n := New.mk hR.free
  have hba : eB E ≤ H.size := by have := hB.2.2.2.2.2.2.2.2.2.2; omega
  have o1 : ∀ q : Nat, q < H.size → (H.push ({ cls := cA, slots := Array.replicate n v, vm := .none } : Cell))[q]? = H[q]? := fun q hq => by rw [Array.getElem?_push, if_neg (Nat.ne_of_lt hq)]
  refine ⟨hnew, hR.new hnew (Or.inr (Or.inl ⟨ty, h1, hj, ({ cls := cA, slots := Array.replicate n v, vm := .none } : Cell), Array.getElem?_push_size, hcA, ⟨by simp, rfl, fun _ => ⟨rfl, hba, rfl⟩⟩, ?_⟩)) (by simp) (by rw [hsz_push]; simp) o1 hlim (fun _ v9 hv9 => ?_), o1⟩
  · simp
  · rw [(List.mem_replicate.mp hv9).2]
    exact hv
theorem Nrw3_0 : Nrw 3 (nI 0) := by
  show (nI 0).toInt8.toInt32 = nI 0
  decide
theorem s_newarray {at9 : ArrayType} {t : Nat} (cx : CX E p l R s m args meth c own cc nL d u0 ini) (hd : decode cc pc = .ok (.newarray at9, 2)) (h1 : 100 ≤ t) (h4 : t ≤ 104) (hj : ATL[t - 100]? = some (newarray.typeOf at9)) (hk : Jvm.Cond.arrayClass (newarray.typeOf at9) ∈ lw_all) (hn : nextOK (pc + 2) cs) (JM : ∀ t L st g, jmp C J r t L st g → Zs E p l e R s m args below meth c nL Qf t L st g) (h : wpS E C Hd J K d Q X r pc (.newarray at9) [t] cs L st g) : Zs E p l e R s m args below meth c nL Qf pc L st g := by
  obtain ⟨hx, hb, hml, hown, hts, hB, hlk, hz0, hfr, hlo, hce, hsl, hini, hle⟩ := cx
  dsimp only [wpS] at h
  split at h
  case h_2 => exact h.elim
  rename_i x st
  obtain ⟨n, rfl, hn26, hlim, hf⟩ := hdp_ok h hn
  intro H locs ls hR hS hlr
  refine W_le fun hle1 hle2 => ?_
  obtain ⟨hc1, hc2⟩ := room_new hz0 hce hsl hR hlim hle1 hle2
  have hn0 := nI_n hn26
  have hbytes : n * componentBytes (newarray.typeOf at9) ≤ 536870912 := by
    have h8 : componentBytes (newarray.typeOf at9) ≤ 8 := by cases at9 <;> decide
    calc n * componentBytes (newarray.typeOf at9) ≤ n * 8 := Nat.mul_le_mul_left _ h8
      _ ≤ 536870912 := by omega
  refine W.newa hx hb (hts _ hk) rfl hd rfl hn0.1 (by rw [hn0.2]; exact hbytes) hc1 (by rw [hn0.2]; exact hc2) fun cA kA comp g1 g2 g3 => ?_
  rw [hn0.2]
  obtain ⟨w, hf⟩ := hf H.size hR.free
  have hdv : defaultValue (newarray.typeOf at9) = (cond (Nat.beq t 104) (.long (lN 0)) (.int (nI 0)) : Value) := by
    have : t = 100 ∨ t = 101 ∨ t = 102 ∨ t = 103 ∨ t = 104 := by omega
    rcases this with rfl | rfl | rfl | rfl | rfl <;> (have hj := (Option.some.inj hj).symm; rw [hj]; rfl)
  rw [hdv]
  have hcA : cA = eA E (t - 100) := by
    have h9 := (hB.2.1 (t - 100) _ hj).2
    have h10 : s.vm.findClass ("[" ++ (newarray.typeOf at9).toString) = some (eA E (t - 100)) := by
      cases at9 <;> exact h9
    exact Option.some.inj (g1.symm.trans h10)
  have hel : elOK g t (cond (Nat.beq t 104) (.long (lN 0)) (.int (nI 0)) : Value) := by
    have : t = 100 ∨ t = 101 ∨ t = 102 ∨ t = 103 ∨ t = 104 := by omega
    rcases this with rfl | rfl | rfl | rfl | rfl <;> (refine ⟨fun e => ?_, fun e => ?_, fun e => ?_, fun e => ?_, fun e => ?_, fun e => ?_⟩ <;> first | (exfalso; omega) | exact ⟨_, rfl⟩ | exact ⟨_, rfl, Nrw3_0⟩ | exact ⟨_, rfl, 0, by decide, rfl⟩ | exact ⟨_, rfl, Or.inl rfl⟩)
  obtain ⟨hnew, hR1, o1⟩ := mk_arr (w := w) hB hle1 hR h1 hj hcA hlim hel
  exact W_tight (JM _ _ _ _ (hf _ hnew) _ locs ls hR1 (S_push hS (by simp) o1) hlr)
theorem s_anewarray {i t : Nat} {C9 : String} (cx : CX E p l R s m args meth c own cc nL d u0 ini) (hd : decode cc pc = .ok (.anewarray i, 3)) (h1 : 105 ≤ t) (hj : ATL[t - 100]? = some (.object C9)) (hk : Jvm.Cond.classLink own i C9 ∈ lw_all) (hao : C9 ∈ AOC) (hn : nextOK (pc + 3) cs) (JM : ∀ t L st g, jmp C J r t L st g → Zs E p l e R s m args below meth c nL Qf t L st g) (h : wpS E C Hd J K d Q X r pc (.anewarray i) [t] cs L st g) : Zs E p l e R s m args below meth c nL Qf pc L st g := by
  obtain ⟨hx, hb, hml, hown, hts, hB, hlk, hz0, hfr, hlo, hce, hsl, hini, hle⟩ := cx
  dsimp only [wpS] at h
  split at h
  case h_2 => exact h.elim
  rename_i x st
  obtain ⟨n, rfl, hn26, hlim, hf⟩ := hdp_ok h hn
  intro H locs ls hR hS hlr
  refine W_le fun hle1 hle2 => ?_
  obtain ⟨hc1, hc2⟩ := room_new hz0 hce hsl hR hlim hle1 hle2
  have hn0 := nI_n hn26
  refine W.anew hx hb hown (hts _ hk) (va_AO.use (hB.2.2.2.1 C9 hao)) rfl hd rfl hn0.1 (by rw [hn0.2]; omega) hc1 (by rw [hn0.2]; exact hc2) fun cA kA comp g1 g2 g3 g4 => ?_
  rw [hn0.2]
  obtain ⟨w, hf⟩ := hf H.size hR.free
  obtain ⟨kA9, comp9, k1, k2, k3, k4⟩ := RA_ref hB hj
  have hcA : cA = eA E (t - 100) := Option.some.inj (g1.symm.trans k4)
  have hel : elOK g t .null := by refine ⟨fun e => ?_, fun e => ?_, fun e => ?_, fun e => ?_, fun e => ?_, fun e => ?_⟩ <;> first | exact Or.inl rfl | (exfalso; omega)
  obtain ⟨hnew, hR1, o1⟩ := mk_arr (w := w) hB hle1 hR (by omega) hj hcA hlim hel
  exact W_tight (JM _ _ _ _ (hf _ hnew) _ locs ls hR1 (S_push hS (by simp) o1) hlr)
/-- what a cast of a cell asks -/
theorem cast_how {H : Heap} {a k : Nat} {x : Cel} {n : String} (hB : Base E s s.heap) (hR : Rel E g H) (h0 : g.2 a = some x) (hc : castY x.1 k = true) (hn : CNL[k]? = some n) : ∃ cell : Cell, H[a]? = some cell ∧ cell.vm.isStatics = false ∧ (s.vm.findClass n = some cell.cls ∨ ∃ nm : String, s.vm.findClass nm = some cell.cls ∧ va_Nw (.castable nm n) s) := by
  obtain ⟨p9, hp, h2⟩ := List.any_eq_true.mp hc
  obtain ⟨h3, h4⟩ := Bool.and_eq_true_iff.mp h2
  have e1 := Nat.eq_of_beq_eq_true h3
  have e2 := Nat.eq_of_beq_eq_true h4
  rcases CASTY_ok p9 hp with ⟨r0, n9, hr, hn9, hor⟩ | ⟨h100, ty, n9, hj, hn9, hnm⟩
  · rw [e1] at hr
    rw [e2] at hn9
    cases hn.symm.trans hn9
    obtain ⟨cell, y1, y2, y3, y4⟩ := cls_known hB hR h0 hr
    refine ⟨cell, y1, y2, ?_⟩
    rcases hor with h | h
    · exact Or.inl (by rw [← h]; exact y3)
    · exact Or.inr ⟨r0.1, y3, hB.2.2.1 _ h rfl⟩
  · rw [e1] at h100 hj
    rw [e2] at hn9
    cases hn.symm.trans hn9
    obtain ⟨ty9, h9, hj9, cell, hcell, hcls, hvm, hsl2⟩ := (hR.1 a x h0).arr h100
    cases hj.symm.trans hj9
    refine ⟨cell, hcell, hvm.2.1, Or.inl ?_⟩
    rw [hnm, hcls]
    have h10 := (hB.2.1 (x.1 - 100) _ hj).2
    cases ty with
    | object C8 => obtain ⟨_, _, _, _, _, h11⟩ := h10; exact h11
    | _ => exact h10
theorem s_checkcast {i k : Nat} {n : String} (cx : CX E p l R s m args meth c own cc nL d u0 ini) (hd : decode cc pc = .ok (.checkcast i, 3)) (hk : CNL[k]? = some n) (hl : Jvm.Cond.classLink own i n ∈ lw_all) (hn : nextOK (pc + 3) cs) (A : ∀ L st g, arr J r cs L st g → Zs E p l e R s m args below meth c nL Qf (pc + 3) L st g) (JM : ∀ t L st g, jmp C J r t L st g → Zs E p l e R s m args below meth c nL Qf t L st g) (h : wpS E C Hd J K d Q X r pc (.checkcast i) [k] cs L st g) : Zs E p l e R s m args below meth c nL Qf pc L st g := by
  obtain ⟨hx, hb, hml, hown, hts, hB, hlk, hz0, hfr, hlo, hce, hsl, hini, hle⟩ := cx
  dsimp only [wpS] at h
  split at h
  · rename_i a st
    obtain ⟨x, hx0, hc, hf⟩ := hdp_ok h hn
    intro H locs ls hR hS hlr
    obtain ⟨cell, y1, y2, hor⟩ := cast_how hB hR hx0 hc hk
    rcases hor with h9 | ⟨nm, h9, h10⟩
    · exact va_castE hx hb hown (hts _ hl) ⟨cell, y1, y2, h9⟩ hd (JM _ _ _ _ hf H locs ls hR hS hlr)
    · exact va_castY hx hb hown (hts _ hl) h10 ⟨cell, y1, y2, h9⟩ hd (JM _ _ _ _ hf H locs ls hR hS hlr)
  · exact Zs.pure (fun _ _ _ _ _ _ => lv_castN hx hb hd) (A _ _ _ h)
  · exact h.elim
theorem s_instanceof {i k : Nat} {n : String} (cx : CX E p l R s m args meth c own cc nL d u0 ini) (hd : decode cc pc = .ok (.instanceof i, 3)) (hk : CNL[k]? = some n) (hl : Jvm.Cond.classLink own i n ∈ lw_all) (hn : nextOK (pc + 3) cs) (A : ∀ L st g, arr J r cs L st g → Zs E p l e R s m args below meth c nL Qf (pc + 3) L st g) (JM : ∀ t L st g, jmp C J r t L st g → Zs E p l e R s m args below meth c nL Qf t L st g) (h : wpS E C Hd J K d Q X r pc (.instanceof i) [k] cs L st g) : Zs E p l e R s m args below meth c nL Qf pc L st g := by
  obtain ⟨hx, hb, hml, hown, hts, hB, hlk, hz0, hfr, hlo, hce, hsl, hini, hle⟩ := cx
  dsimp only [wpS] at h
  split at h
  · rename_i a st
    obtain ⟨x, hx0, hor⟩ := hdp_ok h hn
    intro H locs ls hR hS hlr
    rcases hor with ⟨hc, hf⟩ | ⟨hc, hf⟩
    · obtain ⟨cell, y1, y2, hor⟩ := cast_how hB hR hx0 hc hk
      rcases hor with h9 | ⟨nm, h9, h10⟩
      · exact va_instE hx hb hown (hts _ hl) ⟨cell, y1, y2, h9⟩ hd (JM _ _ _ _ hf H locs ls hR hS hlr)
      · exact va_instY hx hb hown (hts _ hl) h10 ⟨cell, y1, y2, h9⟩ hd (JM _ _ _ _ hf H locs ls hR hS hlr)
    · obtain ⟨p9, hp, h2⟩ := List.any_eq_true.mp hc
      obtain ⟨h3, h4⟩ := Bool.and_eq_true_iff.mp h2
      have e1 := Nat.eq_of_beq_eq_true h3
      have e2 := Nat.eq_of_beq_eq_true h4
      have h40 : x.1 < 40 := by
        have h5 : CASTN.all (fun p => Nat.blt p.1 40) = true := by decide +kernel
        have := List.all_eq_true.mp h5 p9 hp
        rw [← e1]
        simpa using this
      have hlen : x.1 < CL.length := Nat.lt_of_lt_of_eq h40 (by decide +kernel)
      obtain ⟨cell, y1, y2, y3, y4⟩ := cls_known hB hR hx0 (List.getElem?_eq_getElem hlen)
      exact va_instNo hx hb hown (hts _ hl) (hB.2.2.2.2.1 p9 hp _ n (by rw [e1]; exact List.getElem?_eq_getElem hlen) (by rw [e2]; exact hk)) ⟨cell, y1, y2, y3⟩ hd (JM _ _ _ _ hf H locs ls hR hS hlr)
  · exact Zs.pure (fun _ _ _ _ _ _ => lv_instN hx hb hd) (A _ _ _ h)
  · exact h.elim
theorem lk_swt {x : Int32} {jf : Nat → Prop} {dft : Prop} {q d9 : Int} : ∀ (ps : List (Int × Int)) (l9 : List Nat), lkPairs q ps l9 = true → swt jf x dft l9 → (∃ t : Nat, q + Op.lookupswitch.offset ps d9 x.toInt = (t : Int) ∧ jf t) ∨ (Op.lookupswitch.offset ps d9 x.toInt = d9 ∧ dft) := by
  intro ps
  induction ps with
  | nil =>
    intro l9 h1 h2
    cases l9 with
    | nil => exact Or.inr ⟨rfl, h2⟩
    | cons a l9 => cases l9 <;> cases h1
  | cons a ps ih =>
    obtain ⟨k, o⟩ := a
    intro l9 h1 h2
    match l9, h1, h2 with
    | [], h1, _ => cases h1
    | [_], h1, _ => cases h1
    | j :: t :: l9, h1, h2 =>
      simp only [lkPairs, Bool.and_eq_true, decide_eq_true_eq] at h1
      obtain ⟨⟨⟨rfl, hj⟩, ht⟩, hr⟩ := h1
      obtain ⟨h3, h4⟩ := h2
      have hjI : (nI j).toInt = (j : Int) := nI_toInt (by omega)
      by_cases hxj : x = nI j
      · refine Or.inl ⟨t, ?_, h3 hxj⟩
        rw [Op.lookupswitch.offset_cons, if_pos (by rw [hxj, hjI])]
        exact ht
      · rw [lv_osw hxj hjI]
        exact ih l9 hr (h4 hxj)
theorem s_lookup {o : Int} {ps : Array (Int × Int)} {len t : Nat} {l9 : List Nat} (cx : CX E p l R s m args meth c own cc nL d u0 ini) (hd : decode cc pc = .ok (.lookupswitch o ps, len)) (ht : (pc : Int) + o = (t : Int)) (hp : lkPairs pc ps.toList l9 = true) (hs9 : (ps.toList.zip (ps.toList.drop 1)).all (fun (a, next) => a.1 < next.1) = true) (JM : ∀ t L st g, jmp C J r t L st g → Zs E p l e R s m args below meth c nL Qf t L st g) (h : wpS E C Hd J K d Q X r pc (.lookupswitch o ps) (t :: l9) cs L st g) : Zs E p l e R s m args below meth c nL Qf pc L st g := by
  obtain ⟨hx, hb, hml, hown, hts, hB, hlk, hz0, hfr, hlo, hce, hsl, hini, hle⟩ := cx
  dsimp only [wpS] at h
  split at h
  case h_2 => exact h.elim
  rename_i x st
  rcases lk_swt (d9 := o) ps.toList l9 hp h with ⟨t9, h1, h2⟩ | ⟨h1, h2⟩
  · exact Zs.pure (fun _ _ _ _ _ _ => lv_lookup hx hb hd hs9 rfl h1) (JM _ _ _ _ h2)
  · exact Zs.pure (fun _ _ _ _ _ _ => lv_lookup hx hb hd hs9 h1 ht) (JM _ _ _ _ h2)
theorem tb_swt {x : Int32} {jf : Nat → Prop} {dft : Prop} {q : Int} : ∀ (ps : List Int) (l9 : List Nat) (lo : Int), lkTab q lo ps l9 = true → swt jf x dft l9 → (∃ (t j : Nat) (off : Int), x.toInt = lo + j ∧ ps[j]? = some off ∧ q + off = (t : Int) ∧ jf t) ∨ ((x.toInt < lo ∨ lo + ps.length ≤ x.toInt) ∧ dft) := by
  intro ps
  induction ps with
  | nil =>
    intro l9 lo h1 h2
    cases l9 with
    | nil => exact Or.inr ⟨by simp; omega, h2⟩
    | cons a l9 => cases l9 <;> cases h1
  | cons o ps ih =>
    intro l9 lo h1 h2
    match l9, h1, h2 with
    | [], h1, _ => cases h1
    | [_], h1, _ => cases h1
    | j :: t :: l9, h1, h2 =>
      simp only [lkTab, Bool.and_eq_true, decide_eq_true_eq] at h1
      obtain ⟨⟨⟨rfl, hj⟩, ht⟩, hr⟩ := h1
      obtain ⟨h3, h4⟩ := h2
      have hjI : (nI j).toInt = (j : Int) := nI_toInt (by omega)
      by_cases hxj : x = nI j
      · exact Or.inl ⟨t, 0, o, by rw [hxj, hjI]; simp, rfl, ht, h3 hxj⟩
      · rcases ih l9 _ hr (h4 hxj) with ⟨t9, j9, off, e1, e2, e3, e4⟩ | ⟨e1, e2⟩
        · exact Or.inl ⟨t9, j9 + 1, off, by rw [e1]; push_cast; omega, by simpa using e2, e3, e4⟩
        · refine Or.inr ⟨?_, e2⟩
          have h9 : x.toInt ≠ (j : Int) := fun q => hxj (Int32.toInt_inj.mp (by rw [hjI]; exact q))
          simp only [List.length_cons]
          omega
theorem s_table {o lo hi : Int} {ps : Array Int} {len t : Nat} {l9 : List Nat} (cx : CX E p l R s m args meth c own cc nL d u0 ini) (hd : decode cc pc = .ok (.tableswitch o lo hi ps, len)) (ht : (pc : Int) + o = (t : Int)) (hp : lkTab pc lo ps.toList l9 = true) (hs9 : lo + ps.size = hi + 1) (JM : ∀ t L st g, jmp C J r t L st g → Zs E p l e R s m args below meth c nL Qf t L st g) (h : wpS E C Hd J K d Q X r pc (.tableswitch o lo hi ps) (t :: l9) cs L st g) : Zs E p l e R s m args below meth c nL Qf pc L st g := by
  obtain ⟨hx, hb, hml, hown, hts, hB, hlk, hz0, hfr, hlo, hce, hsl, hini, hle⟩ := cx
  dsimp only [wpS] at h
  split at h
  case h_2 => exact h.elim
  rename_i x st
  rcases tb_swt ps.toList l9 lo hp h with ⟨t9, j, off, h1, h2, h3, h4⟩ | ⟨h1, h2⟩
  · have hj : j < ps.size := by
      have := (List.getElem?_eq_some_iff.mp h2).1
      simpa using this
    have hjj : (x.toInt - lo).toNat = j := by omega
    exact Zs.pure (fun _ _ _ _ _ _ => lv_tableIn hx hb hd (by omega) (by omega) (by rw [hjj]; simpa using h2) h3) (JM _ _ _ _ h4)
  · exact Zs.pure (fun _ _ _ _ _ _ => lv_tableOut hx hb hd (by simp at h1; omega) ht) (JM _ _ _ _ h2)
end HEAP3
