/-! WHAT AN ABSTRACT HEAP SAYS OF THE MACHINE'S -/
def hsz (H : Heap) : Nat := (H.toList.map (fun c => c.slots.size)).sum
theorem hsz_push (H : Heap) (c : Cell) : hsz (H.push c) = hsz H + c.slots.size := by simp [hsz]
theorem hsz_same {H H' : Heap} (h1 : H'.size = H.size) (h2 : ∀ (q : Nat) (c : Cell), H[q]? = some c → ∃ c' : Cell, H'[q]? = some c' ∧ c'.slots.size = c.slots.size) : hsz H' = hsz H := by
  have e : H'.toList.map (fun c => c.slots.size) = H.toList.map (fun c => c.slots.size) := by
    apply List.ext_getElem?
    intro i
    simp only [List.getElem?_map, Array.getElem?_toList]
    cases hc : H[i]? with
    | none =>
      have : H.size ≤ i := by simpa using hc
      have : H'[i]? = none := by simp; omega
      rw [this]
    | some c =>
      obtain ⟨c', e1, e2⟩ := h2 i c hc
      rw [e1]; simp [e2]
  simp only [hsz, e]
theorem hsz_set {H H' : Heap} {a : Nat} {c c' : Cell} (h0 : H[a]? = some c) (e1 : H'[a]? = some c') (hs : c'.slots.size = c.slots.size) (h1 : H'.size = H.size) (h2 : ∀ q : Nat, q ≠ a → H'[q]? = H[q]?) : hsz H' = hsz H := by
  refine hsz_same h1 fun q c2 hq => ?_
  by_cases e : q = a
  · subst e
    rw [h0] at hq
    cases hq
    exact ⟨c', e1, hs⟩
  · exact ⟨c2, by rw [h2 q e]; exact hq, rfl⟩
/-- all that the frame condition says of the sizes is exact -/
theorem same_tight {s T : State} {locs : List Loc} {cells slots : Nat} (h : s.sameButNew T locs cells slots) : s.sameButNew T locs (T.heap.size - s.heap.size) (hsz T.heap - hsz s.heap) ∧ hsz s.heap ≤ hsz T.heap := by
  obtain ⟨h1, h2, h3, h4, h5, h6⟩ := h
  have e1 : T.heap.toList.map (fun c => c.slots.size) = (T.heap.toList.take s.heap.size).map (fun c => c.slots.size) ++ (T.heap.toList.drop s.heap.size).map (fun c => c.slots.size) := by
    rw [← List.map_append, List.take_append_drop]
  have e2 : (T.heap.toList.take s.heap.size).map (fun c => c.slots.size) = s.heap.toList.map (fun c => c.slots.size) := by
    apply List.ext_getElem?
    intro i
    simp only [List.getElem?_map, Array.getElem?_toList, List.getElem?_take]
    by_cases hi : i < s.heap.size
    · rw [if_pos hi]
      obtain ⟨c', q1, q2, q3, -⟩ := h6 i _ (Array.getElem?_eq_getElem hi)
      rw [q1, Array.getElem?_eq_getElem hi]
      simp [q3]
    · rw [if_neg hi]
      have : s.heap[i]? = none := by simp; omega
      rw [this]
  have e3 : hsz T.heap = hsz s.heap + ((T.heap.toList.drop s.heap.size).map (fun c => c.slots.size)).sum := by
    simp only [hsz]
    rw [e1, e2, List.sum_append]
  exact ⟨⟨h1, h2, by omega, h4, by rw [e3]; omega, h6⟩, by omega⟩
theorem W_tight {p : Program} {l : Launch} {e : Env} {R : Room} {s : State} {m : MethodId} {args : Array Value} {below : List Frame} {meth : Method} {c : Code} {H : Heap} {locs : List Loc} {cells slots : Nat} {Q : State → Prop} {g : JFrame}
    (k : W p l e R s m args below meth c H locs (H.size - s.heap.size) (hsz H - hsz s.heap) Q g) : W p l e R s m args below meth c H locs cells slots Q g := by
  intro T hT X
  subst hT
  exact k T rfl { X with same := (same_tight X.same).1 }
theorem W_le {p : Program} {l : Launch} {e : Env} {R : Room} {s : State} {m : MethodId} {args : Array Value} {below : List Frame} {meth : Method} {c : Code} {H : Heap} {locs : List Loc} {cells slots : Nat} {Q : State → Prop} {g : JFrame}
    (k : s.heap.size ≤ H.size → hsz s.heap ≤ hsz H → W p l e R s m args below meth c H locs cells slots Q g) : W p l e R s m args below meth c H locs cells slots Q g := by
  intro T hT X
  subst hT
  exact k X.same.2.1 (same_tight X.same).2 T rfl X
def SlotN (U : State) (C f d : String) (i : Nat) : Prop := ∃ cf kf fi fd, U.fieldFound? C f d = some (cf, kf, fi, fd) ∧ fd.slot = i ∧ fd.isStatic = false
theorem SlotN.moved {u U : State} {C f d : String} {i : Nat} (hvm : u.vm.Alike U.vm) (h : SlotN u C f d i) : SlotN U C f d i := by
  obtain ⟨cf, kf, fi, fd, hi, hs⟩ := h
  obtain ⟨kf', hi', -⟩ := State.fieldFound?_setVm (s := u) hvm hi
  exact ⟨cf, kf', fi, fd, by simpa only [State.fieldFound?, State.vm_setVm] using hi', hs⟩
/-- words of the tables that don't ride in lists -/
def isNw : Jvm.Cond → Bool
  | .fieldLinkNest _ _ _ _ _ _ => true
  | .methodLinkNest _ _ _ _ => true
  | .declares _ => true
  | .castable _ _ => true
  | .privateMethod _ => true
  | _ => false
theorem isNw_moved {w : Jvm.Cond} (h : isNw w = true) {s U : State} (hW : s.WarmedH U.vm) (hZ : va_Nw w s) : va_Nw w U := by
  cases w <;> first | exact va_Nw.warmF hW hZ | exact va_Nw.warmM hW hZ | exact va_Nw.warmD hW hZ | exact va_Nw.warmC hW hZ | exact va_tabs rfl (rfl : (s.setVm U.vm).vm = U.vm) (by rw [Cond.privateMethod_setVm hW.alike]; exact hZ) | (cases h)
theorem isNw_tab {w : Jvm.Cond} (h : isNw w = true) : w.onTables = true := by
  cases w <;> first | rfl | (cases h)
def AOC : List String := ["java/lang/Object", "Quillplate$Template", "Quillplate$Value", "Quillplate$Block", "QuillplateModel$Template", "QuillplateModel$Value"]
/-- mirrors of classes, and what a call of getClass through Collection asks of the tables -/
def Mir (E : Ev) (U : State) : Prop := ∀ (i : Nat) (n : String), nth MIRL i = some n → ∃ c k, U.vm.findClass n = some c ∧ U.vm.classes[c]? = some k ∧ k.mirror = some (la E (1000 + i))
theorem Mir.warm {E : Ev} {s U : State} (hW : s.WarmedH U.vm) (h : Mir E s) : Mir E U := by
  intro i n hi
  obtain ⟨c, k, h1, h2, h3⟩ := h i n hi
  obtain ⟨k', e1, e2, -⟩ := hW.mirror h2
  exact ⟨c, k', by rw [hW.alike.findClass]; exact h1, e1, by rw [e2]; exact h3⟩
theorem Mir.eval {E : Ev} {s : State} {args : Array Value} (h : Mir E s) {i : Nat} {n : String} (hi : nth MIRL i = some n) : (Term.mirror n).eval args s none [] s = some (.ref (la E (1000 + i))) := by
  obtain ⟨c, k, h1, h2, h3⟩ := h i n hi
  simp [Term.eval, h1, h2, h3]
def Gci (U : State) : Prop := (Cond.declares Stand.gcN).before #[] U = true ∧ (Cond.interfaceMethod "java/util/Collection" "java/lang/Object" "getClass" "()Ljava/lang/Class;").before #[] U = true ∧ (Cond.publicMethod Stand.gcN).before #[] U = true ∧ (Cond.unhidden "java/util/ArrayList" "getClass" "()Ljava/lang/Class;").before #[] U = true ∧ (Cond.castable "java/util/ArrayList" "java/util/Collection").before #[] U = true
theorem Gci.moved {u U : State} (hvm : u.vm.Alike U.vm) (h : Gci u) : Gci U := by
  obtain ⟨h1, h2, h3, h4, h5⟩ := h
  have tr : ∀ {c : Jvm.Cond}, c.onTables = true → c.before #[] (u.setVm U.vm) = true → c.before #[] U = true := by
    intro c hc h
    have e := Cond.onTables_vm (A := #[]) (A' := #[]) (U := u) (U' := U) U.vm c hc
    have hU : U.setVm U.vm = U := rfl
    rw [hU] at e
    rw [← e]
    exact h
  have hi : (Jvm.Cond.interfaceMethod "java/util/Collection" "java/lang/Object" "getClass" "()Ljava/lang/Class;").before #[] (u.setVm U.vm) = (Jvm.Cond.interfaceMethod "java/util/Collection" "java/lang/Object" "getClass" "()Ljava/lang/Class;").before #[] u := by
    have hf := State.methodFound?_setVm (s := u) hvm "java/util/Collection" "getClass" "()Ljava/lang/Class;"
    simp only [Cond.before, Cond.holds, Cond.value, State.vm_setVm, hvm.findClass, hf, State.methodNamed?_setVm hvm, arm_isInterface_setVm hvm]
  exact ⟨tr rfl (by rw [Cond.declares_setVm hvm]; exact h1), tr rfl (by rw [hi]; exact h2), tr rfl (by rw [Cond.publicMethod_setVm hvm]; exact h3), tr rfl (by rw [Cond.unhidden_setVm hvm]; exact h4), tr rfl (by rw [Cond.castable_setVm hvm]; exact h5)⟩
/-- what the tables and the old cells say, wherever a run stands -/
def Base (E : Ev) (U : State) (H : Heap) : Prop :=
  (∀ (t : Nat) (r : vw_C), CL[t]? = some r → ClassAt U r.1 (eC E t) ∧ ∀ k, k < r.2.2 → SlotN U (r.2.1 k).1 (r.2.1 k).2.1 (r.2.1 k).2.2.1 (eI E t k)) ∧
  (∀ (j : Nat) (ty : FieldType), ATL[j]? = some ty → ArrOfT U (eA E j) ty ∧ va_RA U (eA E j) ty) ∧
  (∀ w ∈ lw_tbl, isNw w = true → va_Nw w U) ∧
  (∀ C ∈ AOC, va_AO C U) ∧
  (∀ q ∈ CASTN, ∀ (r : vw_C) (n : String), CL[q.1]? = some r → CNL[q.2]? = some n → va_Nc r.1 n U) ∧
  (∀ (k : Nat) (q : String × String × String), nth STL k = some q → ∃ v : Value, (stUsed k = true → v = svV E k) ∧ (stUsed k = false → v = .null ∨ ∃ a, v = .ref a) ∧ (k = 0 → v = svN E) ∧ va_Z q.1 q.2.1 q.2.2 v (fun a => eB E ≤ a) U H) ∧
  ((∀ (k : Nat) (q : String × Nat × String), nth STRL k = some q → vk_R q.1 q.2.1 q.2.2 (la E k) U) ∧ Mir E U ∧ Gci U ∧ vx_L Bundle.tN "UNASSIGNED_STACK" Bundle.steD (fun a => eB E ≤ a) U H ∧ vx_L Bundle.tN "SUPPRESSED_SENTINEL" Bundle.listD (fun a => eB E ≤ a) U H) ∧
  (∀ w ∈ lw_all, w.before #[] U = true) ∧ (∀ q ∈ FWL, va_Fw q.1 q.2.1 q.2.2 U) ∧
  (eL E).flags = flags0 ∧ eB E ≤ H.size
theorem FWL_ok : ∀ q ∈ FWL, q.2.1.cls ≠ "java/lang/invoke/MethodHandle" ∧ q.2.1.cls ≠ "java/lang/invoke/VarHandle" := by decide +kernel
theorem Base.moved {E : Ev} {s U : State} {H H' : Heap} (hW : s.WarmedH U.vm) (h : Base E s H) (hH : ∀ q : Nat, q < eB E → H'[q]? = H[q]?) (hs : H.size ≤ H'.size) : Base E U H' := by
  obtain ⟨h1, h2, h3, h4, h5, h6, h7, h8, hF, h9, h10⟩ := h
  have hvm := hW.alike
  refine ⟨fun t r hr => ⟨classAt_moved hvm (h1 t r hr).1, fun k hk => ((h1 t r hr).2 k hk).moved hvm⟩, fun j ty hj => ⟨arrOfT_moved hvm (h2 j ty hj).1, (h2 j ty hj).2.moved hvm⟩,
    fun w hw hn => isNw_moved hn hW (h3 w hw hn), fun C hC => (h4 C hC).moved hvm, fun q hq r n hr hn => (h5 q hq r n hr hn).moved hvm, fun k q hq => ?_, ⟨fun k q hq => (h7.1 k q hq).warm hW, h7.2.1.warm hW, h7.2.2.1.moved hvm, (h7.2.2.2.1.moved hvm).kept fun a ha hn => hH a (by omega), (h7.2.2.2.2.moved hvm).kept fun a ha hn => hH a (by omega)⟩, fun w hw => ?_, fun q hq => (hF q hq).moved (FWL_ok q hq) hvm, h9, by omega⟩
  · obtain ⟨v, v1, v2, v4, v3⟩ := h6 k q hq
    exact ⟨v, v1, v2, v4, (v3.moved hvm).kept fun a ha hn => hH a (by omega)⟩
  · exact word_at hW (lw_self w hw).2 (h8 w hw)
def vmOK (E : Ev) (a : Nat) (c : Cel) (cell : Cell) : Prop := cell.vm ≠ .unknown ∧ cell.vm.isStatics = false ∧ (c.2.2 ≠ none → cell.vm = .none ∧ eB E ≤ a ∧ cell.monitor = {})
def celI (E : Ev) (H : Heap) (a : Nat) (c : Cel) : Prop := ∃ r : vw_C, CL[c.1]? = some r ∧ c.2.1.length = r.2.2 ∧ ∃ cell : Cell, H[a]? = some cell ∧ cell.cls = eC E c.1 ∧ vmOK E a c cell ∧ ∀ k, k < r.2.2 → cell.slots[eI E c.1 k]? = some (vp_V c.2.1 k)
def celA (E : Ev) (H : Heap) (a : Nat) (c : Cel) : Prop := ∃ ty : FieldType, 100 ≤ c.1 ∧ ATL[c.1 - 100]? = some ty ∧ ∃ cell : Cell, H[a]? = some cell ∧ cell.cls = eA E (c.1 - 100) ∧ vmOK E a c cell ∧ cell.slots = c.2.1.toArray
def celL (E : Ev) (H : Heap) (a : Nat) (c : Cel) : Prop := 40 ≤ c.1 ∧ c.1 < 45 ∧ ∃ cell : Cell, H[a]? = some cell ∧ cell.cls = eC E c.1 ∧ vmOK E a c cell ∧ ∀ (k : Nat) (v : Value), c.2.1[k]? = some v → cell.slots[k]? = some v
def celO (E : Ev) (H : Heap) (a : Nat) (c : Cel) : Prop := celI E H a c ∨ celA E H a c ∨ (celL E H a c ∧ c.2.2 = none)
/-- what an array's place may hold -/
def elOK (g : Hp) (t : Nat) (v : Value) : Prop := (t = 100 → ∃ x, v = .int x ∧ Nrw 3 x) ∧ (t = 101 → ∃ x, v = .int x ∧ Nrw 2 x) ∧ (t = 102 → ∃ x, v = .int x) ∧ (t = 103 → ∃ x, v = .int x ∧ Nrw 1 x) ∧ (t = 104 → ∃ x, v = .long x) ∧ (105 ≤ t → v = .null ∨ ∃ (y : Nat) (c : Cel), v = .ref y ∧ g.2 y = some c ∧ asgT c.1 t = true)
def WFo (g : Hp) : Prop := ∀ (a t : Nat) (fs : List Value) (w : Option Nat), 100 ≤ t → g.2 a = some (t, fs, w) → ∀ v ∈ fs, elOK g t v
def Rel (E : Ev) (g : Hp) (H : Heap) : Prop := (∀ a c, g.2 a = some c → celO E H a c) ∧ 5 * H.size + hsz H = eZ E + g.1 ∧ g.1 ≤ LIM ∧ WFo g
theorem celO.lt {E : Ev} {H : Heap} {a : Nat} {c : Cel} (h : celO E H a c) : a < H.size := by
  rcases h with ⟨r, h1, h2, cell, h3, -⟩ | ⟨ty, h0, h1, cell, h3, -⟩ | ⟨⟨h0, h1, cell, h3, -⟩, -⟩ <;> exact (Array.getElem?_eq_some_iff.mp h3).1
theorem celO.kept {E : Ev} {H H' : Heap} {a : Nat} {c : Cel} (h : celO E H a c) (hq : H'[a]? = H[a]?) : celO E H' a c := by
  rcases h with ⟨r, h1, h2, cell, h3, h4⟩ | ⟨ty, h0, h1, cell, h3, h4⟩ | ⟨⟨h0, h1, cell, h3, h4⟩, h5⟩
  · exact Or.inl ⟨r, h1, h2, cell, by rw [hq]; exact h3, h4⟩
  · exact Or.inr (Or.inl ⟨ty, h0, h1, cell, by rw [hq]; exact h3, h4⟩)
  · exact Or.inr (Or.inr ⟨⟨h0, h1, cell, by rw [hq]; exact h3, h4⟩, h5⟩)
theorem celO.cell {E : Ev} {H : Heap} {a : Nat} {c : Cel} (h : celO E H a c) : ∃ cell : Cell, H[a]? = some cell ∧ vmOK E a c cell := by
  rcases h with ⟨r, h1, h2, cell, h3, h4, h5, h6⟩ | ⟨ty, h0, h1, cell, h3, h4, h5, h6⟩ | ⟨⟨h0, h1, cell, h3, h4, h5, h6⟩, h7⟩ <;> exact ⟨cell, h3, h5⟩
theorem Rel.free {E : Ev} {g : Hp} {H : Heap} (h : Rel E g H) : g.2 H.size = none := by
  cases hc : g.2 H.size with
  | none => rfl
  | some c => exact absurd (h.1 _ _ hc).lt (Nat.lt_irrefl _)
theorem CL_len {t : Nat} {r : vw_C} (h : CL[t]? = some r) : t < 40 := by
  have := (List.getElem?_eq_some_iff.mp h).1
  have e : CL.length = 40 := by decide +kernel
  omega
/-- an instance, by its class's number -/
theorem celO.inst {E : Ev} {H : Heap} {a : Nat} {c : Cel} (h : celO E H a c) (ht : c.1 < 40) : celI E H a c := by
  rcases h with h | ⟨ty, h0, -⟩ | ⟨⟨h0, -⟩, -⟩
  · exact h
  · omega
  · omega
theorem celO.arr {E : Ev} {H : Heap} {a : Nat} {c : Cel} (h : celO E H a c) (ht : 100 ≤ c.1) : celA E H a c := by
  rcases h with ⟨r, h1, -⟩ | h | ⟨⟨h0, h1, -⟩, -⟩
  · have := CL_len h1
    omega
  · exact h
  · omega
theorem elOK.to {g g' : Hp} {t : Nat} {v : Value} (h : elOK g t v) (hk : ∀ (y : Nat) (c : Cel), g.2 y = some c → ∃ c' : Cel, g'.2 y = some c' ∧ c'.1 = c.1) : elOK g' t v := by
  obtain ⟨h1, h2, h3, h4, h5, h6⟩ := h
  refine ⟨h1, h2, h3, h4, h5, fun ht => ?_⟩
  rcases h6 ht with h | ⟨y, c, e1, e2, e3⟩
  · exact Or.inl h
  · obtain ⟨c', q1, q2⟩ := hk y c e2
    exact Or.inr ⟨y, c', e1, q1, by rw [q2]; exact e3⟩
theorem Put.keep {g g' : Hp} {a : Nat} {c c' : Cel} (hp : Put g g' a c') (h0 : g.2 a = some c) (ht : c'.1 = c.1) : ∀ (y : Nat) (x : Cel), g.2 y = some x → ∃ x' : Cel, g'.2 y = some x' ∧ x'.1 = x.1 := by
  intro y x hx
  by_cases e : y = a
  · subst e
    rw [h0] at hx
    cases hx
    exact ⟨c', hp.2.1, ht⟩
  · exact ⟨x, by rw [hp.2.2 y e]; exact hx, rfl⟩
/-- one cell changes -/
theorem Rel.put {E : Ev} {g g' : Hp} {H H' : Heap} {a : Nat} {c c' : Cel} (h : Rel E g H) (hp : Put g g' a c') (h0 : g.2 a = some c) (ht : c'.1 = c.1) (hc : celO E H' a c') (hs : H'.size = H.size) (hz : hsz H' = hsz H) (ho : ∀ q : Nat, q ≠ a → H'[q]? = H[q]?)
    (hw : 100 ≤ c'.1 → ∀ v ∈ c'.2.1, elOK g c'.1 v) : Rel E g' H' := by
  have hk := hp.keep h0 ht
  obtain ⟨p1, p2, p3⟩ := hp
  obtain ⟨r1, r2, r3, r4⟩ := h
  refine ⟨fun b cb hb => ?_, by rw [hs, hz, p1]; exact r2, by rw [p1]; exact r3, fun b t fs w h100 hb v hv => ?_⟩
  · by_cases e : b = a
    · subst e
      rw [p2] at hb
      cases hb
      exact hc
    · rw [p3 b e] at hb
      exact (r1 b cb hb).kept (ho b e)
  · by_cases e : b = a
    · subst e
      rw [p2] at hb
      cases hb
      exact (hw h100 v hv).to hk
    · rw [p3 b e] at hb
      exact (r4 b t fs w h100 hb v hv).to hk
/-- one cell is made -/
theorem Rel.new {E : Ev} {g g' : Hp} {H H' : Heap} {c : Cel} {n : Nat} (h : Rel E g H) (hg : New g g' H.size c n) (hc : celO E H' H.size c) (hs : H'.size = H.size + 1) (hz : hsz H' = hsz H + n) (ho : ∀ q : Nat, q < H.size → H'[q]? = H[q]?) (hl : g.1 + 5 + n ≤ LIM)
    (hw : 100 ≤ c.1 → ∀ v ∈ c.2.1, elOK g c.1 v) : Rel E g' H' := by
  obtain ⟨hf, n1, n2, n3⟩ := hg
  obtain ⟨r1, r2, r3, r4⟩ := h
  have hk : ∀ (y : Nat) (x : Cel), g.2 y = some x → ∃ x' : Cel, g'.2 y = some x' ∧ x'.1 = x.1 := by
    intro y x hx
    exact ⟨x, by rw [n3 y (fun e => by rw [e, hf] at hx; cases hx)]; exact hx, rfl⟩
  refine ⟨fun b cb hb => ?_, by rw [hs, hz, n1]; omega, by rw [n1]; exact hl, fun b t fs w h100 hb v hv => ?_⟩
  · by_cases e : b = H.size
    · subst e
      rw [n2] at hb
      cases hb
      exact hc
    · rw [n3 b e] at hb
      exact (r1 b cb hb).kept (ho b (r1 b cb hb).lt)
  · by_cases e : b = H.size
    · subst e
      rw [n2] at hb
      cases hb
      exact (hw h100 v hv).to hk
    · rw [n3 b e] at hb
      exact (r4 b t fs w h100 hb v hv).to hk
theorem New.mk {g : Hp} {a : Nat} {c : Cel} {n : Nat} (h : g.2 a = none) : New g (g.1 + 5 + n, fun b => if b = a then some c else g.2 b) a c n :=
  ⟨h, rfl, by simp, fun b hb => by simp [hb]⟩
