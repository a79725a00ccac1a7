/-! THE ROWS THAT TOUCH THE HEAP -/
def fldL (own : String) (k : Nat) (q : String × String × String) : Prop := ∃ ref, ((Jvm.Cond.fieldLink own k ref q.2.1 q.2.2 ∈ lw_all) ∨ ∃ host, Jvm.Cond.fieldLinkNest own k ref q.2.1 q.2.2 host ∈ lw_tbl) ∧ (ref = q.1 ∨ Jvm.Cond.sameField ref q.1 q.2.1 q.2.2 ∈ lw_all)
def CX (E : Ev) (p : Program) (l : Launch) (R : Room) (s : State) (m : MethodId) (args : Array Value) (meth : Method) (c : Code) (own : String) (cc : ByteArray) (nL d u0 : Nat) (ini : Bool) : Prop :=
  p.tables.exec = Jvm.exec ∧ c.code = cc ∧ c.maxLocals = nL ∧ s.vm.findClass own = some m.cls ∧ (∀ w ∈ lw_all, w.before args s = true) ∧ Base E s s.heap ∧ meth.locks = false ∧ 5 * s.heap.size + hsz s.heap = eZ E + u0 ∧ d ≤ R.frames ∧ 40 * d ≤ R.locals ∧ (LIM - u0) / 5 ≤ R.cells ∧ LIM - u0 ≤ R.slots ∧ (ini = true → meth.name = "<init>") ∧ l = eL E
section HEAP
variable {E : Ev} {p : Program} {l : Launch} {e : Env} {R : Room} {s : State} {m : MethodId} {args : Array Value} {below : List Frame} {meth : Method} {c : Code} {own : String} {cc : ByteArray} {nL d u0 : Nat} {ini : Bool} {Qf : State → Prop}
variable {C : List Ent} {Hd : List (Nat × Nat × Nat × Nat)} {J : Cuts} {K : KSem} {Q : Post} {X : XPost} {r : List Ent → LSt} {pc : Nat} {aux : List Nat} {cs : List Ent} {L : List Sl} {st : List Value} {g : Hp}
theorem hdp_ok {n : Nat} {f : Nat → Prop} (h : hdp cs f) (hn : nextOK n cs) : f n := by
  cases cs with
  | nil => exact h.elim
  | cons e cs =>
    obtain ⟨p9, i9⟩ := e
    have hn : p9 = n := hn
    subst hn
    exact h
theorem byV_ok {v : Value} {f : Value → Prop} (h : byV v f) : f v := by
  unfold byV at h
  split at h <;> first | exact h | exact h.elim
theorem fld_same {q : String × String × String} {ref : String} (hts : ∀ w ∈ lw_all, w.before args s = true) (h : ref = q.1 ∨ Jvm.Cond.sameField ref q.1 q.2.1 q.2.2 ∈ lw_all) : ∀ x, s.fieldFound? q.1 q.2.1 q.2.2 = some x → s.fieldFound? ref q.2.1 q.2.2 = some x := by
  intro x hx
  rcases h with h | h
  · rw [h]; exact hx
  · exact u_same (hts _ h) x hx
theorem vmOK.ns {a : Nat} {x : Cel} {cell : Cell} (h : vmOK E a x cell) : ∀ k, cell.vm ≠ .statics k := fun k e => by
  have := h.2.1
  rw [e] at this
  cases this
theorem arrOf {a j : Nat} {x : Cel} {cell : Cell} {ty : FieldType} (hB : Base E s s.heap) (hv : vmOK E a x cell) (hc : cell.cls = eA E j) (hj : ATL[j]? = some ty) : s.isArrayOf cell ty := by
  obtain ⟨h1, k, hk, comp, hkind⟩ := (hB.2.1 j ty hj).1 0 (fun _ => .null)
  exact ⟨hv.ns, k, by rw [hc]; exact hk, comp, hkind⟩
theorem nw_use {w : Jvm.Cond} (hB : Base E s s.heap) (h : w ∈ lw_tbl) (hn : isNw w = true) : w.before args s = true := va_Nw.use (isNw_tab hn) (hB.2.2.1 w h hn)
theorem S_put {H0 H H1 : Heap} {locs : List Loc} {a i : Nat} (h : va_S (fun a => eB E ≤ a) H0 H locs) (hs : H1.size = H.size) (ho : ∀ q : Nat, q ≠ a → H1[q]? = H[q]?) (ha : eB E ≤ a) : va_S (fun a => eB E ≤ a) H0 H1 (locs ++ [⟨a, i⟩]) :=
  ⟨by rw [hs]; exact h.1, fun q h1 h2 => by rw [ho q (fun e => h2 (by rw [e]; exact ha))]; exact h.2.1 q h1 h2, fun q hq => by
    rcases List.mem_append.mp hq with h3 | h3
    · exact h.2.2 q h3
    · rw [List.mem_singleton.mp h3]; exact ha⟩
theorem s_getfield {i f ln : Nat} {q : String × String × String} (cx : CX E p l R s m args meth c own cc nL d u0 ini) (hd : decode cc pc = .ok (.getfield i, 3)) (hq : nth FLL f = some q) (hl : fldL own i q) (hn : nextOK (pc + 3) cs) (JM : ∀ t L st g, jmp C J r t L st g → Zs E p l e R s m args below meth c nL Qf t L st g) (h : wpS E C Hd J K d Q X r pc (.getfield i) [f] cs L st g) : Zs E p l e R s m args below meth c nL Qf pc L st g := by
  obtain ⟨hx, hb, hml, hown, hts, hB, hlk, hz0, hfr, hlo, hce, hsl, hini, hle⟩ := cx
  dsimp only [wpS] at h
  split at h
  case h_2 => exact h.elim
  rename_i a st
  obtain ⟨x, hx0, k, hk, v, hv, hf⟩ := hdp_ok h hn
  have hf := JM _ _ _ _ (byV_ok hf)
  intro H locs ls hR hS hlr
  have ht : x.1 < 40 := by
    unfold fpos at hk
    cases hg : nth FPT x.1 with
    | none => rw [hg] at hk; cases hk
    | some l9 =>
      rw [nth_eq] at hg
      have h9 := (List.getElem?_eq_some_iff.mp hg).1
      exact Nat.lt_of_lt_of_eq h9 (by decide +kernel)
  obtain ⟨r0, hr, hlen, cell, hcell, hcls, hvm, hval⟩ := (hR.1 a x hx0).inst ht
  obtain ⟨hkN, e1, e2, e3, -⟩ := fpos_ok hk hr hq
  obtain ⟨cf, kf, fi, fd, hi, hs, hst⟩ := (hB.1 x.1 r0 hr).2 k hkN
  rw [e1, e2, e3] at hi
  have hslot : cell.slots[fd.slot]? = some v := by
    rw [hs, hval k hkN]
    simp [vp_V, ← nth_eq, hv]
  obtain ⟨ref, hlink, hsame⟩ := hl
  have hi2 := fld_same hts hsame _ hi
  rcases hlink with hlink | ⟨host, hlink⟩
  · exact W.getf hx hb hown (hts _ hlink) hi2 hst hcell hvm.1 hslot rfl rfl hd (hf H locs ls hR hS hlr)
  · exact va_Wgetf hx hb hown (nw_use hB hlink rfl) hi2 hst hcell hvm.1 hslot rfl rfl hd (hf H locs ls hR hS hlr)
theorem CL_some {x : Cel} {H : Heap} {a : Nat} (hR : Rel E g H) (h0 : g.2 a = some x) {f k : Nat} (hk : fpos x.1 f = some k) : celI E H a x := by
  refine (hR.1 a x h0).inst ?_
  unfold fpos at hk
  cases hg : nth FPT x.1 with
  | none => rw [hg] at hk; cases hk
  | some l9 =>
    rw [nth_eq] at hg
    have h9 := (List.getElem?_eq_some_iff.mp hg).1
    exact Nat.lt_of_lt_of_eq h9 (by decide +kernel)
theorem s_putfield {i f : Nat} {q : String × String × String} (cx : CX E p l R s m args meth c own cc nL d u0 ini) (hd : decode cc pc = .ok (.putfield i, 3)) (hq : nth FLL f = some q) (hl : fldL own i q) (hfin : nth FFN f = some true → ini = true ∧ q.1 = own ∧ Jvm.Cond.fieldLink own i q.1 q.2.1 q.2.2 ∈ lw_all) (hn : nextOK (pc + 3) cs) (JM : ∀ t L st g, jmp C J r t L st g → Zs E p l e R s m args below meth c nL Qf t L st g) (h : wpS E C Hd J K d Q X r pc (.putfield i) [f] cs L st g) : Zs E p l e R s m args below meth c nL Qf pc L st g := by
  obtain ⟨hx, hb, hml, hown, hts, hB, hlk, hz0, hfr, hlo, hce, hsl, hini, hle⟩ := cx
  dsimp only [wpS] at h
  split at h
  case h_2 => exact h.elim
  rename_i v a st
  obtain ⟨t, fs, w, hx0, hbl, k, hk, hkl, hfw, hf⟩ := hdp_ok h hn
  intro H locs ls hR hS hlr
  obtain ⟨r0, hr, hlen, cell, hcell, hcls, hvm, hval⟩ := CL_some hR hx0 hk
  obtain ⟨hkN, e1, e2, e3, e4⟩ := fpos_ok hk hr hq
  obtain ⟨hfc, kC, hkC, hkind⟩ := (hB.1 t r0 hr).1
  obtain ⟨cf, kf, fi, fd, hi0, hs, hst⟩ := (hB.1 t r0 hr).2 k hkN
  have hi : s.fieldFound? q.1 q.2.1 q.2.2 = some (cf, kf, fi, fd) := by rw [← e1, ← e2, ← e3]; exact hi0
  obtain ⟨hvmn, hba, hmon⟩ := hvm.2.2 (by simp)
  have htl : t < 39 := by simpa using hbl
  have hin := CL_in t r0 hr htl
  obtain ⟨ty, hty, hna, hfi⟩ := fld_ty hq hfw
  have hlay := hts _ (hin _ (u_in_lay hkN))
  have hap : ∀ x y, x < r0.2.2 → y < r0.2.2 → x ≠ y → (eI E t) x ≠ (eI E t) y := by
    intro x y hx1 hy1 hxy
    obtain ⟨_, _, _, fx, hix, hsx, -⟩ := (hB.1 t r0 hr).2 x hx1
    obtain ⟨_, _, _, fy, hiy, hsy, -⟩ := (hB.1 t r0 hr).2 y hy1
    rw [← hsx, ← hsy]
    refine u_apart (u_lays hts hin hx1) (u_lays hts hin hy1) hix hiy ?_
    obtain ⟨tx, htx⟩ := CL_ty hr hx1
    obtain ⟨ty1, hty1⟩ := CL_ty hr hy1
    rw [(State.fieldFound?_type hix htx).1, (State.fieldFound?_type hiy hty1).1]
    exact CL_nm hr x hx1 y hy1 hxy
  have hslt : fd.slot < cell.slots.size := by rw [hs]; exact k2_hasslot (hval k hkN)
  have fin : ∀ (H1 : Heap), H1[a]? = some (cell.setSlot fd.slot v) → H1.size = H.size → (∀ q : Nat, q ≠ a → H1[q]? = H[q]?) → W p l e R s m args below meth c H1 (locs ++ [⟨a, fd.slot⟩]) (H.size - s.heap.size) (hsz H - hsz s.heap) Qf (F0 m (pc + 3) ls st) := by
    intro H1 q1 q2 q3
    have hz : hsz H1 = hsz H := hsz_set hcell q1 (k2_slotsz ..) q2 q3
    have hp : Put g (g.1, fun b => if b = a then some (t, fs.set k v, some w) else g.2 b) a (t, fs.set k v, some w) := ⟨rfl, by simp, fun b hb => by simp [hb]⟩
    have hR1 : Rel E (g.1, fun b => if b = a then some (t, fs.set k v, some w) else g.2 b) H1 := by
      refine hR.put hp hx0 rfl (Or.inl ⟨r0, hr, by simpa using hlen, _, q1, hcls, ⟨hvm.1, hvm.2.1, fun _ => ⟨hvmn, hba, hmon⟩⟩, fun j hj => ?_⟩) q2 hz q3 (fun e => ?_)
      · show (cell.setSlot fd.slot v).slots[eI E t j]? = some (vp_V (fs.set k v) j)
        by_cases hjk : j = k
        · subst hjk
          rw [hs]
          simp [Cell.setSlot, vp_V, hkl, Array.getElem?_setIfInBounds, k2_hasslot (hval j hj)]
        · have h9 : eI E t j ≠ fd.slot := by rw [hs]; exact hap j k hj hkN hjk
          rw [slot_ne cell v (Ne.symm h9), hval j hj]
          simp [vp_V, List.getElem?_set, Ne.symm hjk]
      · have : 100 ≤ t := e
        omega
    have := JM _ _ _ _ (hf _ hp) H1 (locs ++ [⟨a, fd.slot⟩]) ls hR1 (S_put hS q2 q3 hba) hlr
    exact W_tight this
  cases hff : (r0.2.1 k).2.2.2 with
  | false =>
    unfold u_lay at hlay
    rw [if_neg (by rw [hff]; decide)] at hlay
    have h6 := u_store (v := v) hfc hkC hkind hlay hi0 (by rw [e3]; exact hty) hna hfi
    obtain ⟨ref, hlink, hsame⟩ := hl
    have hi2 := fld_same hts hsame _ hi
    rcases hlink with hlink | ⟨host, hlink⟩
    · exact W.putK hx hb (f := fd) ⟨hown, hts _ hlink, ⟨_, _, _, hi2⟩, hst⟩ (by rw [hcls]; exact h6) hcell hvmn hslt rfl rfl hd fin
    · exact va_WputK hx hb hown (nw_use hB hlink rfl) hi2 hst (by rw [hcls]; exact h6) hcell hvmn hslt rfl rfl hd fin
  | true =>
    obtain ⟨hi1, hown2, hlink⟩ := hfin (by rw [e4, hff])
    unfold u_lay at hlay
    rw [if_pos hff] at hlay
    have hcf : m.cls = cf := by
      obtain ⟨_, _, c', _, _, _, -, -, hf', -, -, -, hown3, -⟩ := Cond.laysFinal_spec hlay
      have e9 : c' = cf := by have := hi0.symm.trans hf'; simp at this; exact this.1.symm
      rw [e1, hown2] at hown3
      rw [← e9]; exact Option.some.inj (hown.symm.trans hown3)
    have h6 := u_fits hfc hkC hkind (Or.inr hlay) hi0 (by rw [e3]; exact hty) hna hfi
    exact W.putFinK hx hb hown (hts _ hlink) hi hst hcf (hini hi1) (by rw [hcls]; exact h6) hcell hvmn hslt rfl rfl hd fin
end HEAP
