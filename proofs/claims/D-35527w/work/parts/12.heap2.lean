theorem ASG_ok : ∀ p ∈ ASGT, ∃ (r : vw_C) (C : String), CL[p.1]? = some r ∧ ATL[p.2 - 100]? = some (.object C) ∧ (r.1 = C ∨ Jvm.Cond.castable r.1 C ∈ lw_tbl) := by
  unfold ASGT
  exact List.forall_mem_cons.mpr ⟨⟨_, _, rfl, rfl, Or.inr q3830⟩, List.forall_mem_cons.mpr ⟨⟨_, _, rfl, rfl, Or.inr q3832⟩, List.forall_mem_cons.mpr ⟨⟨_, _, rfl, rfl, Or.inr q3826⟩, List.forall_mem_cons.mpr ⟨⟨_, _, rfl, rfl, Or.inl rfl⟩, List.forall_mem_cons.mpr ⟨⟨_, _, rfl, rfl, Or.inr q3844⟩, List.forall_mem_cons.mpr ⟨⟨_, _, rfl, rfl, Or.inr q3825⟩, List.forall_mem_cons.mpr ⟨⟨_, _, rfl, rfl, Or.inl rfl⟩, List.forall_mem_cons.mpr ⟨⟨_, _, rfl, rfl, Or.inr q3845⟩, List.forall_mem_cons.mpr ⟨⟨_, _, rfl, rfl, Or.inr q3855⟩, List.forall_mem_cons.mpr ⟨⟨_, _, rfl, rfl, Or.inr q3851⟩, List.forall_mem_cons.mpr ⟨⟨_, _, rfl, rfl, Or.inr q3852⟩, List.forall_mem_cons.mpr ⟨⟨_, _, rfl, rfl, Or.inr q3827⟩, List.forall_mem_cons.mpr ⟨⟨_, _, rfl, rfl, Or.inl rfl⟩, List.forall_mem_cons.mpr ⟨⟨_, _, rfl, rfl, Or.inr q3853⟩, List.forall_mem_cons.mpr ⟨⟨_, _, rfl, rfl, Or.inr q3854⟩, List.forall_mem_cons.mpr ⟨⟨_, _, rfl, rfl, Or.inr q3847⟩, List.forall_mem_cons.mpr ⟨⟨_, _, rfl, rfl, Or.inr q3848⟩, List.forall_mem_cons.mpr ⟨⟨_, _, rfl, rfl, Or.inr q3849⟩, List.forall_mem_cons.mpr ⟨⟨_, _, rfl, rfl, Or.inr q3850⟩, List.forall_mem_cons.mpr ⟨⟨_, _, rfl, rfl, Or.inr q3868⟩, List.forall_mem_cons.mpr ⟨⟨_, _, rfl, rfl, Or.inr q3867⟩, List.forall_mem_cons.mpr ⟨⟨_, _, rfl, rfl, Or.inr q3846⟩, List.forall_mem_cons.mpr ⟨⟨_, _, rfl, rfl, Or.inr q3840⟩, List.forall_mem_cons.mpr ⟨⟨_, _, rfl, rfl, Or.inr q3856⟩, List.forall_mem_cons.mpr ⟨⟨_, _, rfl, rfl, Or.inr q3828⟩, List.forall_mem_cons.mpr ⟨⟨_, _, rfl, rfl, Or.inl rfl⟩, List.forall_mem_cons.mpr ⟨⟨_, _, rfl, rfl, Or.inr q3829⟩, List.forall_mem_cons.mpr ⟨⟨_, _, rfl, rfl, Or.inl rfl⟩, List.forall_mem_cons.mpr ⟨⟨_, _, rfl, rfl, Or.inr q3872⟩, List.forall_mem_cons.mpr ⟨⟨_, _, rfl, rfl, Or.inr q3857⟩, List.forall_mem_cons.mpr ⟨⟨_, _, rfl, rfl, Or.inr q3869⟩, List.forall_mem_cons.mpr ⟨⟨_, _, rfl, rfl, Or.inr q3837⟩, List.forall_mem_cons.mpr ⟨⟨_, _, rfl, rfl, Or.inr q3833⟩, List.forall_mem_cons.mpr ⟨⟨_, _, rfl, rfl, Or.inr q3835⟩, List.forall_mem_cons.mpr ⟨⟨_, _, rfl, rfl, Or.inr q3860⟩, List.forall_mem_cons.mpr ⟨⟨_, _, rfl, rfl, Or.inr q3831⟩, List.forall_mem_cons.mpr ⟨⟨_, _, rfl, rfl, Or.inr q3859⟩, List.forall_mem_cons.mpr ⟨⟨_, _, rfl, rfl, Or.inr q3863⟩, List.forall_mem_cons.mpr ⟨⟨_, _, rfl, rfl, Or.inr q3839⟩, List.forall_mem_cons.mpr ⟨⟨_, _, rfl, rfl, Or.inr q3838⟩, List.forall_mem_cons.mpr ⟨⟨_, _, rfl, rfl, Or.inr q3858⟩, List.forall_mem_cons.mpr ⟨⟨_, _, rfl, rfl, Or.inl rfl⟩, List.forall_mem_cons.mpr ⟨⟨_, _, rfl, rfl, Or.inr q3836⟩, List.forall_mem_cons.mpr ⟨⟨_, _, rfl, rfl, Or.inr q3841⟩, List.forall_mem_cons.mpr ⟨⟨_, _, rfl, rfl, Or.inr q3843⟩, List.forall_mem_cons.mpr ⟨⟨_, _, rfl, rfl, Or.inr q3866⟩, fun _ h => absurd h List.not_mem_nil⟩⟩⟩⟩⟩⟩⟩⟩⟩⟩⟩⟩⟩⟩⟩⟩⟩⟩⟩⟩⟩⟩⟩⟩⟩⟩⟩⟩⟩⟩⟩⟩⟩⟩⟩⟩⟩⟩⟩⟩⟩⟩⟩⟩⟩⟩
theorem asg_ok {t j : Nat} (h : asgT t j = true) : ∃ (r : vw_C) (C : String), CL[t]? = some r ∧ ATL[j - 100]? = some (.object C) ∧ (r.1 = C ∨ Jvm.Cond.castable r.1 C ∈ lw_tbl) := by
  obtain ⟨p, hp, h2⟩ := List.any_eq_true.mp h
  obtain ⟨h3, h4⟩ := Bool.and_eq_true_iff.mp h2
  have e1 := Nat.eq_of_beq_eq_true h3
  have e2 := Nat.eq_of_beq_eq_true h4
  have := ASG_ok p hp
  rw [e1, e2] at this
  exact this
theorem CASTY_ok : ∀ p ∈ CASTY, (∃ (r : vw_C) (n : String), CL[p.1]? = some r ∧ CNL[p.2]? = some n ∧ (r.1 = n ∨ Jvm.Cond.castable r.1 n ∈ lw_tbl)) ∨ (100 ≤ p.1 ∧ ∃ (ty : FieldType) (n : String), ATL[p.1 - 100]? = some ty ∧ CNL[p.2]? = some n ∧ n = "[" ++ ty.toString) := by
  unfold CASTY
  exact List.forall_mem_cons.mpr ⟨Or.inl ⟨_, _, rfl, rfl, Or.inl rfl⟩, List.forall_mem_cons.mpr ⟨Or.inl ⟨_, _, rfl, rfl, Or.inl rfl⟩, List.forall_mem_cons.mpr ⟨Or.inl ⟨_, _, rfl, rfl, Or.inr q3824⟩, List.forall_mem_cons.mpr ⟨Or.inl ⟨_, _, rfl, rfl, Or.inr q3820⟩, List.forall_mem_cons.mpr ⟨Or.inl ⟨_, _, rfl, rfl, Or.inr q3819⟩, List.forall_mem_cons.mpr ⟨Or.inl ⟨_, _, rfl, rfl, Or.inr q3822⟩, List.forall_mem_cons.mpr ⟨Or.inl ⟨_, _, rfl, rfl, Or.inr q3818⟩, List.forall_mem_cons.mpr ⟨Or.inl ⟨_, _, rfl, rfl, Or.inr q3821⟩, List.forall_mem_cons.mpr ⟨Or.inl ⟨_, _, rfl, rfl, Or.inr q3823⟩, List.forall_mem_cons.mpr ⟨Or.inl ⟨_, _, rfl, rfl, Or.inl rfl⟩, List.forall_mem_cons.mpr ⟨Or.inl ⟨_, _, rfl, rfl, Or.inl rfl⟩, List.forall_mem_cons.mpr ⟨Or.inl ⟨_, _, rfl, rfl, Or.inl rfl⟩, List.forall_mem_cons.mpr ⟨Or.inl ⟨_, _, rfl, rfl, Or.inl rfl⟩, List.forall_mem_cons.mpr ⟨Or.inl ⟨_, _, rfl, rfl, Or.inl rfl⟩, List.forall_mem_cons.mpr ⟨Or.inl ⟨_, _, rfl, rfl, Or.inl rfl⟩, List.forall_mem_cons.mpr ⟨Or.inl ⟨_, _, rfl, rfl, Or.inl rfl⟩, List.forall_mem_cons.mpr ⟨Or.inl ⟨_, _, rfl, rfl, Or.inl rfl⟩, List.forall_mem_cons.mpr ⟨Or.inl ⟨_, _, rfl, rfl, Or.inl rfl⟩, List.forall_mem_cons.mpr ⟨Or.inl ⟨_, _, rfl, rfl, Or.inl rfl⟩, List.forall_mem_cons.mpr ⟨Or.inl ⟨_, _, rfl, rfl, Or.inl rfl⟩, List.forall_mem_cons.mpr ⟨Or.inr ⟨by decide, _, _, rfl, rfl, by decide +kernel⟩, List.forall_mem_cons.mpr ⟨Or.inr ⟨by decide, _, _, rfl, rfl, by decide +kernel⟩, List.forall_mem_cons.mpr ⟨Or.inr ⟨by decide, _, _, rfl, rfl, by decide +kernel⟩, fun _ h => absurd h List.not_mem_nil⟩⟩⟩⟩⟩⟩⟩⟩⟩⟩⟩⟩⟩⟩⟩⟩⟩⟩⟩⟩⟩⟩⟩
/-! arrays, statics, constants, new -/
section HEAP2
variable {E : Ev} {p : Program} {l : Launch} {e : Env} {R : Room} {s : State} {m : MethodId} {args : Array Value} {below : List Frame} {meth : Method} {c : Code} {own : String} {cc : ByteArray} {nL d u0 : Nat} {ini : Bool} {Qf : State → Prop}
variable {C : List Ent} {Hd : List (Nat × Nat × Nat × Nat)} {J : Cuts} {K : KSem} {Q : Post} {X : XPost} {r : List Ent → LSt} {pc : Nat} {aux : List Nat} {cs : List Ent} {L : List Sl} {st : List Value} {g : Hp}
theorem ATL_ref {j : Nat} {ty : FieldType} (h : ATL[j]? = some ty) (hj : 5 ≤ j) : ∃ C, ty = .object C := by
  have hl : j < ATL.length := (List.getElem?_eq_some_iff.mp h).1
  have e : ATL.length = 12 := by decide +kernel
  rw [e] at hl
  have : j = 5 ∨ j = 6 ∨ j = 7 ∨ j = 8 ∨ j = 9 ∨ j = 10 ∨ j = 11 := by omega
  rcases this with rfl | rfl | rfl | rfl | rfl | rfl | rfl <;> (cases h; exact ⟨_, rfl⟩)
theorem ix_in {i n : Nat} (h : i < n) (hi : i < 2 ^ 31) : ¬ (nI i < 0 ∨ n ≤ (nI i).toNatClampNeg) := by
  rintro (h1 | h1)
  · exact nI_pos hi h1
  · rw [nI_clamp hi] at h1
    omega
theorem s_arraylength  (cx : CX E p l R s m args meth c own cc nL d u0 ini) (hd : decode cc pc = .ok (.arraylength, 1)) (hn : nextOK (pc + 1) cs) (JM : ∀ t L st g, jmp C J r t L st g → Zs E p l e R s m args below meth c nL Qf t L st g) (h : wpS E C Hd J K d Q X r pc (.arraylength) aux cs L st g) : Zs E p l e R s m args below meth c nL Qf pc L st g := by
  obtain ⟨hx, hb, hml, hown, hts, hB, hlk, hz0, hfr, hlo, hce, hsl, hini, hle⟩ := cx
  dsimp only [wpS] at h
  split at h
  case h_2 => exact h.elim
  rename_i a st
  obtain ⟨x, hx0, ht, hsz, hf⟩ := hdp_ok h hn
  intro H locs ls hR hS hlr
  obtain ⟨ty, h1, hj, cell, hcell, hcls, hvm, hsl2⟩ := (hR.1 a x hx0).arr ht
  exact W.alen hx hb hcell (arrOf hB hvm hcls hj) (n := nI x.2.1.length) (by rw [hsl2]; simp [nI, Nat.toInt32]) rfl rfl hd (JM _ _ _ _ hf H locs ls hR hS hlr)
theorem s_caload  (cx : CX E p l R s m args meth c own cc nL d u0 ini) (hd : decode cc pc = .ok (.caload, 1)) (hn : nextOK (pc + 1) cs) (JM : ∀ t L st g, jmp C J r t L st g → Zs E p l e R s m args below meth c nL Qf t L st g) (h : wpS E C Hd J K d Q X r pc (.caload) aux cs L st g) : Zs E p l e R s m args below meth c nL Qf pc L st g := by
  obtain ⟨hx, hb, hml, hown, hts, hB, hlk, hz0, hfr, hlo, hce, hsl, hini, hle⟩ := cx
  dsimp only [wpS] at h
  split at h
  case h_2 => exact h.elim
  rename_i v a st
  obtain ⟨x, hx0, ht, i, hi, hi3, y, hy, hf⟩ := hdp_ok h hn
  intro H locs ls hR hS hlr
  obtain ⟨ty, h1, hj, cell, hcell, hcls, hvm, hsl2⟩ := (hR.1 a x hx0).arr (by omega)
  rw [ht] at hj hcls
  cases hj
  subst hi
  rw [nth_eq] at hy
  have hlt : i < x.2.1.length := (List.getElem?_eq_some_iff.mp hy).1
  exact W.cald hx hb hcell (arrOf hB hvm hcls rfl) hvm.1 (by rw [hsl2]; simpa using ix_in hlt hi3) (v := .int y) (by rw [hsl2, nI_clamp hi3]; simpa using hy) rfl rfl hd (JM _ _ _ _ hf H locs ls hR hS hlr)
theorem s_iaload  (cx : CX E p l R s m args meth c own cc nL d u0 ini) (hd : decode cc pc = .ok (.iaload, 1)) (hn : nextOK (pc + 1) cs) (JM : ∀ t L st g, jmp C J r t L st g → Zs E p l e R s m args below meth c nL Qf t L st g) (h : wpS E C Hd J K d Q X r pc (.iaload) aux cs L st g) : Zs E p l e R s m args below meth c nL Qf pc L st g := by
  obtain ⟨hx, hb, hml, hown, hts, hB, hlk, hz0, hfr, hlo, hce, hsl, hini, hle⟩ := cx
  dsimp only [wpS] at h
  split at h
  case h_2 => exact h.elim
  rename_i v a st
  obtain ⟨x, hx0, ht, i, hi, hi3, y, hy, hf⟩ := hdp_ok h hn
  intro H locs ls hR hS hlr
  obtain ⟨ty, h1, hj, cell, hcell, hcls, hvm, hsl2⟩ := (hR.1 a x hx0).arr (by omega)
  rw [ht] at hj hcls
  cases hj
  subst hi
  rw [nth_eq] at hy
  have hlt : i < x.2.1.length := (List.getElem?_eq_some_iff.mp hy).1
  exact W.iald hx hb hcell (arrOf hB hvm hcls rfl) hvm.1 (by rw [hsl2]; simpa using ix_in hlt hi3) (v := .int y) (by rw [hsl2, nI_clamp hi3]; simpa using hy) rfl rfl hd (JM _ _ _ _ hf H locs ls hR hS hlr)
theorem s_laload  (cx : CX E p l R s m args meth c own cc nL d u0 ini) (hd : decode cc pc = .ok (.laload, 1)) (hn : nextOK (pc + 1) cs) (JM : ∀ t L st g, jmp C J r t L st g → Zs E p l e R s m args below meth c nL Qf t L st g) (h : wpS E C Hd J K d Q X r pc (.laload) aux cs L st g) : Zs E p l e R s m args below meth c nL Qf pc L st g := by
  obtain ⟨hx, hb, hml, hown, hts, hB, hlk, hz0, hfr, hlo, hce, hsl, hini, hle⟩ := cx
  dsimp only [wpS] at h
  split at h
  case h_2 => exact h.elim
  rename_i v a st
  obtain ⟨x, hx0, ht, i, hi, hi3, y, hy, hf⟩ := hdp_ok h hn
  intro H locs ls hR hS hlr
  obtain ⟨ty, h1, hj, cell, hcell, hcls, hvm, hsl2⟩ := (hR.1 a x hx0).arr (by omega)
  rw [ht] at hj hcls
  cases hj
  subst hi
  rw [nth_eq] at hy
  have hlt : i < x.2.1.length := (List.getElem?_eq_some_iff.mp hy).1
  exact W.lald hx hb hcell (arrOf hB hvm hcls rfl) hvm.1 (by rw [hsl2]; simpa using ix_in hlt hi3) (v := .long y) (by rw [hsl2, nI_clamp hi3]; simpa using hy) rfl rfl hd (JM _ _ _ _ hf H locs ls hR hS hlr)
theorem s_baload  (cx : CX E p l R s m args meth c own cc nL d u0 ini) (hd : decode cc pc = .ok (.baload, 1)) (hn : nextOK (pc + 1) cs) (JM : ∀ t L st g, jmp C J r t L st g → Zs E p l e R s m args below meth c nL Qf t L st g) (h : wpS E C Hd J K d Q X r pc (.baload) aux cs L st g) : Zs E p l e R s m args below meth c nL Qf pc L st g := by
  obtain ⟨hx, hb, hml, hown, hts, hB, hlk, hz0, hfr, hlo, hce, hsl, hini, hle⟩ := cx
  dsimp only [wpS] at h
  split at h
  case h_2 => exact h.elim
  rename_i v a st
  obtain ⟨x, hx0, ht, i, hi, hi3, y, hy, hf⟩ := hdp_ok h hn
  intro H locs ls hR hS hlr
  obtain ⟨ty, h1, hj, cell, hcell, hcls, hvm, hsl2⟩ := (hR.1 a x hx0).arr (by omega)
  subst hi
  rw [nth_eq] at hy
  have hlt : i < x.2.1.length := (List.getElem?_eq_some_iff.mp hy).1
  rcases ht with ht | ht
  · rw [ht] at hj hcls
    cases hj
    exact W.bald hx hb hcell (arrOf hB hvm hcls rfl) hvm.1 (by rw [hsl2]; simpa using ix_in hlt hi3) (v := .int y) (by rw [hsl2, nI_clamp hi3]; simpa using hy) rfl rfl hd (JM _ _ _ _ hf H locs ls hR hS hlr)
  · rw [ht] at hj hcls
    cases hj
    exact W.zald hx hb hcell (arrOf hB hvm hcls rfl) hvm.1 (by rw [hsl2]; simpa using ix_in hlt hi3) (v := .int y) (by rw [hsl2, nI_clamp hi3]; simpa using hy) rfl rfl hd (JM _ _ _ _ hf H locs ls hR hS hlr)
theorem s_aaload  (cx : CX E p l R s m args meth c own cc nL d u0 ini) (hd : decode cc pc = .ok (.aaload, 1)) (hn : nextOK (pc + 1) cs) (JM : ∀ t L st g, jmp C J r t L st g → Zs E p l e R s m args below meth c nL Qf t L st g) (h : wpS E C Hd J K d Q X r pc (.aaload) aux cs L st g) : Zs E p l e R s m args below meth c nL Qf pc L st g := by
  obtain ⟨hx, hb, hml, hown, hts, hB, hlk, hz0, hfr, hlo, hce, hsl, hini, hle⟩ := cx
  dsimp only [wpS] at h
  split at h
  case h_2 => exact h.elim
  rename_i v a st
  obtain ⟨x, hx0, ht, i, hi, hi3, y, hy, hf⟩ := hdp_ok h hn
  have hf := byV_ok hf
  intro H locs ls hR hS hlr
  obtain ⟨ty, h1, hj, cell, hcell, hcls, hvm, hsl2⟩ := (hR.1 a x hx0).arr (by omega)
  obtain ⟨C9, rfl⟩ := ATL_ref hj (by omega)
  subst hi
  rw [nth_eq] at hy
  have hlt : i < x.2.1.length := (List.getElem?_eq_some_iff.mp hy).1
  exact W.aald hx hb hcell (arrOf hB hvm hcls hj) rfl hvm.1 (by rw [hsl2]; simpa using ix_in hlt hi3) (v := y) (by rw [hsl2, nI_clamp hi3]; simpa using hy) rfl rfl hd (JM _ _ _ _ hf H locs ls hR hS hlr)
/-- an array's place written: what the machine's heap then holds -/
theorem Rel.aset {g : Hp} {H H1 : Heap} {a t i : Nat} {fs : List Value} {w : Nat} {v : Value} {cell : Cell} {ty : FieldType} (hR : Rel E g H) (hx0 : g.2 a = some (t, fs, some w)) (h1 : 100 ≤ t) (hj : ATL[t - 100]? = some ty) (hcell : H[a]? = some cell) (hcls : cell.cls = eA E (t - 100)) (hvm : vmOK E a (t, fs, some w) cell) (hsl2 : cell.slots = fs.toArray) (q1 : H1[a]? = some (cell.setSlot i v)) (q2 : H1.size = H.size) (q3 : ∀ q : Nat, q ≠ a → H1[q]? = H[q]?)
    (hw : elOK g t v) : Put g (g.1, fun b => if b = a then some (t, fs.set i v, some w) else g.2 b) a (t, fs.set i v, some w) ∧ Rel E (g.1, fun b => if b = a then some (t, fs.set i v, some w) else g.2 b) H1 := by
  have hp : Put g (g.1, fun b => if b = a then some (t, fs.set i v, some w) else g.2 b) a (t, fs.set i v, some w) := ⟨rfl, by simp, fun b hb => by simp [hb]⟩
  refine ⟨hp, hR.put hp hx0 rfl (Or.inr (Or.inl ⟨ty, h1, hj, _, q1, hcls, ⟨hvm.1, hvm.2.1, fun _ => hvm.2.2 (by simp)⟩, ?_⟩)) q2 (hsz_set hcell q1 (k2_slotsz ..) q2 q3) q3 fun e v9 hv9 => ?_⟩
  · show (cell.setSlot i v).slots = (fs.set i v).toArray
    simp [Cell.setSlot, hsl2]
  · rcases List.mem_or_eq_of_mem_set hv9 with h | h
    · exact hR.2.2.2 a t fs (some w) h1 hx0 v9 h
    · rw [h]
      exact hw
theorem s_iastore  (cx : CX E p l R s m args meth c own cc nL d u0 ini) (hd : decode cc pc = .ok (.iastore, 1)) (hn : nextOK (pc + 1) cs) (JM : ∀ t L st g, jmp C J r t L st g → Zs E p l e R s m args below meth c nL Qf t L st g) (h : wpS E C Hd J K d Q X r pc (.iastore) aux cs L st g) : Zs E p l e R s m args below meth c nL Qf pc L st g := by
  obtain ⟨hx, hb, hml, hown, hts, hB, hlk, hz0, hfr, hlo, hce, hsl, hini, hle⟩ := cx
  dsimp only [wpS] at h
  split at h
  case h_2 => exact h.elim
  rename_i y v a st
  obtain ⟨t, fs, w, hx0, ht, i, hi, hi3, hlt, hf⟩ := hdp_ok h hn
  subst ht
  subst hi
  intro H locs ls hR hS hlr
  obtain ⟨ty, h1, hj, cell, hcell, hcls, hvm, hsl2⟩ := (hR.1 a _ hx0).arr (by show 100 ≤ 102; omega)
  cases hj
  refine W.iast hx hb hcell (arrOf hB hvm hcls rfl) hvm.1 (by rw [hsl2]; simpa using ix_in hlt hi3) rfl rfl hd fun H1 q1 q2 q3 => ?_
  rw [nI_clamp hi3] at q1 ⊢
  obtain ⟨hp, hR1⟩ := hR.aset hx0 h1 rfl hcell hcls hvm hsl2 q1 q2 q3 (by refine ⟨fun e => ?_, fun e => ?_, fun e => ?_, fun e => ?_, fun e => ?_, fun e => ?_⟩ <;> first | exact ⟨_, rfl, hnw⟩ | exact ⟨_, rfl⟩ | (exfalso; omega))
  exact W_tight (JM _ _ _ _ (hf _ hp) H1 _ ls hR1 (S_put hS q2 q3 (hvm.2.2 (by simp)).2.1) hlr)
theorem s_lastore  (cx : CX E p l R s m args meth c own cc nL d u0 ini) (hd : decode cc pc = .ok (.lastore, 1)) (hn : nextOK (pc + 1) cs) (JM : ∀ t L st g, jmp C J r t L st g → Zs E p l e R s m args below meth c nL Qf t L st g) (h : wpS E C Hd J K d Q X r pc (.lastore) aux cs L st g) : Zs E p l e R s m args below meth c nL Qf pc L st g := by
  obtain ⟨hx, hb, hml, hown, hts, hB, hlk, hz0, hfr, hlo, hce, hsl, hini, hle⟩ := cx
  dsimp only [wpS] at h
  split at h
  case h_2 => exact h.elim
  rename_i y v a st
  obtain ⟨t, fs, w, hx0, ht, i, hi, hi3, hlt, hf⟩ := hdp_ok h hn
  subst ht
  subst hi
  intro H locs ls hR hS hlr
  obtain ⟨ty, h1, hj, cell, hcell, hcls, hvm, hsl2⟩ := (hR.1 a _ hx0).arr (by show 100 ≤ 104; omega)
  cases hj
  refine W.last hx hb hcell (arrOf hB hvm hcls rfl) hvm.1 (by rw [hsl2]; simpa using ix_in hlt hi3) rfl rfl hd fun H1 q1 q2 q3 => ?_
  rw [nI_clamp hi3] at q1 ⊢
  obtain ⟨hp, hR1⟩ := hR.aset hx0 h1 rfl hcell hcls hvm hsl2 q1 q2 q3 (by refine ⟨fun e => ?_, fun e => ?_, fun e => ?_, fun e => ?_, fun e => ?_, fun e => ?_⟩ <;> first | exact ⟨_, rfl, hnw⟩ | exact ⟨_, rfl⟩ | (exfalso; omega))
  exact W_tight (JM _ _ _ _ (hf _ hp) H1 _ ls hR1 (S_put hS q2 q3 (hvm.2.2 (by simp)).2.1) hlr)
theorem s_castore  (cx : CX E p l R s m args meth c own cc nL d u0 ini) (hd : decode cc pc = .ok (.castore, 1)) (hn : nextOK (pc + 1) cs) (JM : ∀ t L st g, jmp C J r t L st g → Zs E p l e R s m args below meth c nL Qf t L st g) (h : wpS E C Hd J K d Q X r pc (.castore) aux cs L st g) : Zs E p l e R s m args below meth c nL Qf pc L st g := by
  obtain ⟨hx, hb, hml, hown, hts, hB, hlk, hz0, hfr, hlo, hce, hsl, hini, hle⟩ := cx
  dsimp only [wpS] at h
  split at h
  case h_2 => exact h.elim
  rename_i y v a st
  obtain ⟨t, fs, w, hx0, ht, hnw, i, hi, hi3, hlt, hf⟩ := hdp_ok h hn
  subst ht
  subst hi
  intro H locs ls hR hS hlr
  obtain ⟨ty, h1, hj, cell, hcell, hcls, hvm, hsl2⟩ := (hR.1 a _ hx0).arr (by show 100 ≤ 101; omega)
  cases hj
  refine W.cast hx hb hcell (arrOf hB hvm hcls rfl) hvm.1 (by rw [hsl2]; simpa using ix_in hlt hi3) rfl rfl hd fun H1 q1 q2 q3 => ?_
  rw [nI_clamp hi3] at q1 ⊢
  rw [(Nrw_char hnw).1] at q1
  obtain ⟨hp, hR1⟩ := hR.aset hx0 h1 rfl hcell hcls hvm hsl2 q1 q2 q3 (by refine ⟨fun e => ?_, fun e => ?_, fun e => ?_, fun e => ?_, fun e => ?_, fun e => ?_⟩ <;> first | exact ⟨_, rfl, hnw⟩ | exact ⟨_, rfl⟩ | (exfalso; omega))
  exact W_tight (JM _ _ _ _ (hf _ hp) H1 _ ls hR1 (S_put hS q2 q3 (hvm.2.2 (by simp)).2.1) hlr)
theorem s_bastore  (cx : CX E p l R s m args meth c own cc nL d u0 ini) (hd : decode cc pc = .ok (.bastore, 1)) (hn : nextOK (pc + 1) cs) (JM : ∀ t L st g, jmp C J r t L st g → Zs E p l e R s m args below meth c nL Qf t L st g) (h : wpS E C Hd J K d Q X r pc (.bastore) aux cs L st g) : Zs E p l e R s m args below meth c nL Qf pc L st g := by
  obtain ⟨hx, hb, hml, hown, hts, hB, hlk, hz0, hfr, hlo, hce, hsl, hini, hle⟩ := cx
  dsimp only [wpS] at h
  split at h
  case h_2 => exact h.elim
  rename_i y v a st
  obtain ⟨t, fs, w, hx0, ht, i, hi, hi3, hlt, hf⟩ := hdp_ok h hn
  subst hi
  intro H locs ls hR hS hlr
  rcases ht with ⟨rfl, hnw⟩ | ⟨rfl, hnw⟩
  · obtain ⟨ty, h1, hj, cell, hcell, hcls, hvm, hsl2⟩ := (hR.1 a _ hx0).arr (by show 100 ≤ 100; omega)
    cases hj
    refine W.bast hx hb hcell (arrOf hB hvm hcls rfl) hvm.1 (by rw [hsl2]; simpa using ix_in hlt hi3) rfl rfl hd fun H1 q1 q2 q3 => ?_
    rw [nI_clamp hi3] at q1 ⊢
    rw [(Nrw_byte hnw).1] at q1
    obtain ⟨hp, hR1⟩ := hR.aset hx0 h1 rfl hcell hcls hvm hsl2 q1 q2 q3 (by refine ⟨fun e => ?_, fun e => ?_, fun e => ?_, fun e => ?_, fun e => ?_, fun e => ?_⟩ <;> first | exact ⟨_, rfl, hnw⟩ | (exfalso; omega))
    exact W_tight (JM _ _ _ _ (hf _ hp) H1 _ ls hR1 (S_put hS q2 q3 (hvm.2.2 (by simp)).2.1) hlr)
  · obtain ⟨ty, h1, hj, cell, hcell, hcls, hvm, hsl2⟩ := (hR.1 a _ hx0).arr (by show 100 ≤ 103; omega)
    cases hj
    refine W.zast hx hb hcell (arrOf hB hvm hcls rfl) hvm.1 (by rw [hsl2]; simpa using ix_in hlt hi3) rfl rfl hd fun H1 q1 q2 q3 => ?_
    rw [nI_clamp hi3] at q1 ⊢
    rw [(Nrw_bool hnw).1] at q1
    obtain ⟨hp, hR1⟩ := hR.aset hx0 h1 rfl hcell hcls hvm hsl2 q1 q2 q3 (by refine ⟨fun e => ?_, fun e => ?_, fun e => ?_, fun e => ?_, fun e => ?_, fun e => ?_⟩ <;> first | exact ⟨_, rfl, hnw⟩ | (exfalso; omega))
    exact W_tight (JM _ _ _ _ (hf _ hp) H1 _ ls hR1 (S_put hS q2 q3 (hvm.2.2 (by simp)).2.1) hlr)
theorem RA_ref {j : Nat} {C : String} (hB : Base E s s.heap) (hj : ATL[j]? = some (.object C)) : ∃ (kA : Class) (comp : ClassId), s.vm.classes[eA E j]? = some kA ∧ kA.kind = .array comp (.object C) ∧ s.vm.findClass C = some comp ∧ s.vm.findClass ("[" ++ (FieldType.object C).toString) = some (eA E j) := (hB.2.1 j _ hj).2
/-- the class of a cell, by name -/
theorem cls_known {H : Heap} {a : Nat} {x : Cel} {r0 : vw_C} (hB : Base E s s.heap) (hR : Rel E g H) (h0 : g.2 a = some x) (hr : CL[x.1]? = some r0) : ∃ cell : Cell, H[a]? = some cell ∧ cell.vm.isStatics = false ∧ s.vm.findClass r0.1 = some cell.cls ∧ cell.vm ≠ .unknown := by
  obtain ⟨r1, h1, h2, cell, h3, h4, h5, -⟩ := (hR.1 a x h0).inst (CL_len hr)
  cases h1.symm.trans hr
  exact ⟨cell, h3, h5.2.1, by rw [h4]; exact (hB.1 x.1 r0 hr).1.1, h5.1⟩
theorem s_aastore  (cx : CX E p l R s m args meth c own cc nL d u0 ini) (hd : decode cc pc = .ok (.aastore, 1)) (hn : nextOK (pc + 1) cs) (JM : ∀ t L st g, jmp C J r t L st g → Zs E p l e R s m args below meth c nL Qf t L st g) (h : wpS E C Hd J K d Q X r pc (.aastore) aux cs L st g) : Zs E p l e R s m args below meth c nL Qf pc L st g := by
  obtain ⟨hx, hb, hml, hown, hts, hB, hlk, hz0, hfr, hlo, hce, hsl, hini, hle⟩ := cx
  dsimp only [wpS] at h
  split at h
  case h_3 => exact h.elim
  · rename_i v a st
    obtain ⟨t, fs, w, hx0, ht, i, hi, hi3, hlt, hf⟩ := hdp_ok h hn
    subst hi
    intro H locs ls hR hS hlr
    obtain ⟨ty, h1, hj, cell, hcell, hcls, hvm, hsl2⟩ := (hR.1 a _ hx0).arr (by show 100 ≤ t; omega)
    dsimp only at hj hcls
    obtain ⟨C9, rfl⟩ := ATL_ref hj (by omega)
    refine va_WaastN hx hb hcell (arrOf hB hvm hcls hj) hvm.1 (by rw [hsl2]; simpa using ix_in hlt hi3) rfl rfl hd fun H1 q1 q2 q3 => ?_
    rw [nI_clamp hi3] at q1 ⊢
    obtain ⟨hp, hR1⟩ := hR.aset hx0 (by omega) hj hcell hcls hvm hsl2 q1 q2 q3 (by refine ⟨fun e => ?_, fun e => ?_, fun e => ?_, fun e => ?_, fun e => ?_, fun e => ?_⟩ <;> first | exact Or.inl rfl | (exfalso; omega))
    exact W_tight (JM _ _ _ _ (hf _ hp) H1 _ ls hR1 (S_put hS q2 q3 (hvm.2.2 (by simp)).2.1) hlr)
  · rename_i y v a st
    obtain ⟨t, fs, w, hx0, ht, ⟨cy, hy0, hya⟩, i, hi, hi3, hlt, hf⟩ := hdp_ok h hn
    subst hi
    intro H locs ls hR hS hlr
    obtain ⟨ty, h1, hj, cell, hcell, hcls, hvm, hsl2⟩ := (hR.1 a _ hx0).arr (by show 100 ≤ t; omega)
    dsimp only at hj hcls
    obtain ⟨C9, rfl⟩ := ATL_ref hj (by omega)
    obtain ⟨kA, comp, k1, k2, k3, k4⟩ := RA_ref hB hj
    obtain ⟨r0, C8, hr0, hj8, hcs⟩ := asg_ok hya
    cases hj.symm.trans hj8
    obtain ⟨celly, y1, y2, y3, y4⟩ := cls_known hB hR hy0 hr0
    obtain ⟨hfc, kC, hkC, hkind⟩ := (hB.1 cy.1 r0 hr0).1
    have ec : celly.cls = eC E cy.1 := Option.some.inj (y3.symm.trans hfc)
    have hasg : s.vm.assignable (eC E cy.1) comp = true := by
      rcases hcs with hcs | hcs
      · rw [hcs] at hfc
        cases hfc.symm.trans k3
        exact va_assign (hB.1 cy.1 r0 hr0).1
      · obtain ⟨c3, c4, g3, g4, g5⟩ := Cond.castable_spec (nw_use (args := args) hB hcs rfl)
        cases hfc.symm.trans g3
        cases k3.symm.trans g4
        exact g5
    obtain ⟨kcomp, hkcomp, -⟩ := Vm.findClass_spec k3
    refine W.aast hx hb hcell hvm.ns hvm.1 (by rw [hcls]; exact k1) k2 rfl hkcomp ⟨nI_pos hi3, by rw [hsl2, nI_clamp hi3]; simpa using hlt⟩ y1 (fun q e => by rw [e] at y2; cases y2) (by rw [ec]; exact hkC) (by rw [ec]; exact hasg) rfl rfl hd fun H1 q1 q2 q3 => ?_
    rw [nI_clamp hi3] at q1 ⊢
    obtain ⟨hp, hR1⟩ := hR.aset hx0 (by omega) hj hcell hcls hvm hsl2 q1 q2 q3 (by refine ⟨fun e => ?_, fun e => ?_, fun e => ?_, fun e => ?_, fun e => ?_, fun e => ?_⟩ <;> first | exact Or.inr ⟨y, cy, rfl, hy0, hya⟩ | (exfalso; omega))
    exact W_tight (JM _ _ _ _ (hf _ hp) H1 _ ls hR1 (S_put hS q2 q3 (hvm.2.2 (by simp)).2.1) hlr)
end HEAP2
