/-! THE ROWS: locals, stack, arithmetic, jumps -/
theorem nth_eq {α : Type} (l : List α) (k : Nat) : nth l k = l[k]? := by
  induction l generalizing k with
  | nil => rfl
  | cons x l ih =>
    cases k with
    | zero => rfl
    | succ k => simpa [nth] using ih k
def evS : Value ⊕ Value → Value
  | .inl v => v
  | .inr v => v
def catS : Value ⊕ Value → Prop
  | .inl v => v.category = 1
  | .inr v => v.category = 2
def lrel (ls : Array Slot) (nL : Nat) (L : List Sl) : Prop := ls.size = nL ∧ lv_wf ls ∧ ∀ (i : Nat) (x : Value ⊕ Value), L[i]? = some (some x) → ls[i]? = some (.val (evS x)) ∧ catS x
def asc (L : List Sl) : List (Nat × Value) := (List.range L.length).filterMap fun i => match L[i]? with
  | some (some x) => some (i, evS x)
  | _ => none
theorem asc_mem {L : List Sl} {q : Nat × Value} (h : q ∈ asc L) : ∃ x, L[q.1]? = some (some x) ∧ q.2 = evS x := by
  obtain ⟨i, hi, h2⟩ := List.mem_filterMap.mp h
  split at h2
  · rename_i x hx
    cases h2
    exact ⟨x, hx, rfl⟩
  · cases h2
theorem mem_asc {L : List Sl} {i : Nat} {x : Value ⊕ Value} (h : L[i]? = some (some x)) : (i, evS x) ∈ asc L := by
  refine List.mem_filterMap.mpr ⟨i, List.mem_range.mpr (List.getElem?_eq_some_iff.mp h).1, ?_⟩
  rw [h]
theorem lrel.has {ls : Array Slot} {nL : Nat} {L : List Sl} (h : lrel ls nL L) : lv_has ls nL (asc L) := by
  refine ⟨h.1, h.2.1, fun q hq => ?_⟩
  obtain ⟨x, h1, h2⟩ := asc_mem hq
  rw [h2]
  exact (h.2.2 _ _ h1).1
theorem lrel.at {ls : Array Slot} {nL : Nat} {L : List Sl} (h : lrel ls nL L) {k : Nat} {x : Value ⊕ Value} (hk : nth L k = some (some x)) : ls[k]? = some (.val (evS x)) := (h.2.2 k x (by rw [← nth_eq]; exact hk)).1
theorem put1_at (L : List Sl) (k : Nat) (v : Value) : ∀ (i : Nat) (x : Value ⊕ Value), (put1 L k v)[i]? = some (some x) → (i = k ∧ x = .inl v) ∨ (i ≠ k ∧ L[i]? = some (some x) ∧ ∀ w, i + 1 = k → x ≠ .inr w) := by
  fun_induction put1 L k v with
  | case1 => intro i x h; simp at h
  | case2 v y L =>
    intro i x h
    cases i with
    | zero => simp at h; exact Or.inl ⟨rfl, h.symm⟩
    | succ i => exact Or.inr ⟨by omega, by simpa using h, fun w e => by omega⟩
  | case3 => intro i x h; simp at h
  | case4 v w y L =>
    intro i x h
    match i with
    | 0 => simp at h
    | 1 => simp at h; exact Or.inl ⟨rfl, h.symm⟩
    | i + 2 => exact Or.inr ⟨by omega, by simpa using h, fun w e => by omega⟩
  | case5 v y z L hn =>
    intro i x h
    match i with
    | 0 =>
      simp at h
      refine Or.inr ⟨by omega, by simpa using h, fun w _ e => ?_⟩
      exact hn w (by rw [h, e])
    | 1 => simp at h; exact Or.inl ⟨rfl, h.symm⟩
    | i + 2 => exact Or.inr ⟨by omega, by simpa using h, fun w e => by omega⟩
  | case6 v y z L k ih =>
    intro i x h
    cases i with
    | zero => exact Or.inr ⟨by omega, by simpa using h, fun w e => by omega⟩
    | succ i =>
      rcases ih i x (by simpa using h) with ⟨e1, e2⟩ | ⟨e1, e2, e3⟩
      · exact Or.inl ⟨by omega, e2⟩
      · exact Or.inr ⟨by omega, by simpa using e2, fun w e => e3 w (by omega)⟩
theorem put2_at (L : List Sl) (k : Nat) (v : Value) : ∀ (i : Nat) (x : Value ⊕ Value), (put2 L k v)[i]? = some (some x) → (i = k ∧ x = .inr v) ∨ (i ≠ k ∧ i ≠ k + 1 ∧ L[i]? = some (some x) ∧ ∀ w, i + 1 = k → x ≠ .inr w) := by
  fun_induction put2 L k v with
  | case1 => intro i x h; simp at h
  | case2 => intro i x h; simp at h
  | case3 v y z L =>
    intro i x h
    match i with
    | 0 => simp at h; exact Or.inl ⟨rfl, h.symm⟩
    | 1 => simp at h
    | i + 2 => exact Or.inr ⟨by omega, by omega, by simpa using h, fun w e => by omega⟩
  | case4 => intro i x h; simp at h
  | case5 v w y z L =>
    intro i x h
    match i with
    | 0 => simp at h
    | 1 => simp at h; exact Or.inl ⟨rfl, h.symm⟩
    | 2 => simp at h
    | i + 3 => exact Or.inr ⟨by omega, by omega, by simpa using h, fun w e => by omega⟩
  | case6 v y z u L hn =>
    intro i x h
    match i with
    | 0 =>
      simp at h
      refine Or.inr ⟨by omega, by omega, by simpa using h, fun w _ e => ?_⟩
      exact hn w (by rw [h, e])
    | 1 => simp at h; exact Or.inl ⟨rfl, h.symm⟩
    | 2 => simp at h
    | i + 3 => exact Or.inr ⟨by omega, by omega, by simpa using h, fun w e => by omega⟩
  | case7 v y z u L k ih =>
    intro i x h
    cases i with
    | zero => exact Or.inr ⟨by omega, by omega, by simpa using h, fun w e => by omega⟩
    | succ i =>
      rcases ih i x (by simpa using h) with ⟨e1, e2⟩ | ⟨e1, e2, e3, e4⟩
      · exact Or.inl ⟨by omega, e2⟩
      · exact Or.inr ⟨by omega, by omega, by simpa using e3, fun w e => e4 w (by omega)⟩
theorem fL_eq (L : List Sl) (k : List Sl → Prop) : fL L k ↔ k L := by
  induction L generalizing k with
  | nil => exact Iff.rfl
  | cons x l ih =>
    rcases x with _ | (x | x) <;> exact ih _
theorem lrel.put1 {ls ls' : Array Slot} {nL : Nat} {L : List Sl} {k : Nat} {v : Value} (h : lrel ls nL L) (hc : v.category = 1) (h2 : lv_has ls' nL ((k, v) :: (asc L).filter (fun q => !(q.1 == k) && !(q.1 + 1 == k && q.2.category == 2)))) : lrel ls' nL (put1 L k v) := by
  refine ⟨h2.1, h2.2.1, fun i x hx => ?_⟩
  rcases put1_at L k v i x hx with ⟨e1, e2⟩ | ⟨e1, e2, e3⟩
  · subst e1; subst e2
    exact ⟨h2.2.2 (i, v) List.mem_cons_self, hc⟩
  · have hcat := (h.2.2 i x e2).2
    refine ⟨h2.2.2 (i, evS x) (List.mem_cons_of_mem _ (List.mem_filter.mpr ⟨mem_asc e2, ?_⟩)), hcat⟩
    simp only [Bool.and_eq_true, Bool.not_eq_true', beq_eq_false_iff_ne, ne_eq, Bool.and_eq_false_iff]
    refine ⟨e1, ?_⟩
    rcases x with x | x
    · right
      show ¬ x.category = 2
      rw [hcat]
      decide
    · left
      exact fun e => e3 x e rfl
theorem lrel.put2 {ls ls' : Array Slot} {nL : Nat} {L : List Sl} {k : Nat} {v : Value} (h : lrel ls nL L) (hc : v.category = 2) (h2 : lv_has ls' nL ((k, v) :: (asc L).filter (fun q => !(q.1 == k) && (!(q.1 == k + 1) && !(q.1 + 1 == k && q.2.category == 2))))) : lrel ls' nL (put2 L k v) := by
  refine ⟨h2.1, h2.2.1, fun i x hx => ?_⟩
  rcases put2_at L k v i x hx with ⟨e1, e2⟩ | ⟨e1, e0, e2, e3⟩
  · subst e1; subst e2
    exact ⟨h2.2.2 (i, v) List.mem_cons_self, hc⟩
  · have hcat := (h.2.2 i x e2).2
    refine ⟨h2.2.2 (i, evS x) (List.mem_cons_of_mem _ (List.mem_filter.mpr ⟨mem_asc e2, ?_⟩)), hcat⟩
    simp only [Bool.and_eq_true, Bool.not_eq_true', beq_eq_false_iff_ne, ne_eq, Bool.and_eq_false_iff]
    refine ⟨e1, e0, ?_⟩
    rcases x with x | x
    · right
      show ¬ x.category = 2
      rw [hcat]
      decide
    · left
      exact fun e => e3 x e rfl
