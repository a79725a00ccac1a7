/-! the tables' certificates -/
theorem lkp_mem {α : Type} {l : List (Nat × α)} {k : Nat} {v : α} (h : lkp l k = some v) : (k, v) ∈ l := by
  induction l with
  | nil => cases h
  | cons x l ih =>
    obtain ⟨a, b⟩ := x
    rw [lkp] at h
    cases e : Nat.beq a k with
    | true =>
      rw [e] at h
      have h1 := Nat.eq_of_beq_eq_true e
      cases h
      rw [h1]
      exact List.mem_cons_self
    | false =>
      rw [e] at h
      exact List.mem_cons_of_mem _ (ih h)
def chkF : Bool := (List.range 40).all fun t => match nth FPT t, CL[t]? with
  | some l, some r => l.all fun p => match nth FLL p.1 with
    | some q => decide (p.2 < r.2.2) && decide ((r.2.1 p.2).1 = q.1) && decide ((r.2.1 p.2).2.1 = q.2.1) && decide ((r.2.1 p.2).2.2.1 = q.2.2) && decide (nth FFN p.1 = some (r.2.1 p.2).2.2.2)
    | none => false
  | _, _ => false
theorem chkF_ok : chkF = true := by decide +kernel
theorem fpos_ok {t f k : Nat} {r : vw_C} {q : String × String × String} (h : fpos t f = some k) (hr : CL[t]? = some r) (hq : nth FLL f = some q) : k < r.2.2 ∧ (r.2.1 k).1 = q.1 ∧ (r.2.1 k).2.1 = q.2.1 ∧ (r.2.1 k).2.2.1 = q.2.2 ∧ nth FFN f = some (r.2.1 k).2.2.2 := by
  have h1 := List.all_eq_true.mp chkF_ok t (List.mem_range.mpr (CL_len hr))
  unfold fpos at h
  cases hl : nth FPT t with
  | none => rw [hl] at h; cases h
  | some l =>
    rw [hl] at h
    rw [hl, hr] at h1
    have h2 := List.all_eq_true.mp h1 (f, k) (lkp_mem h)
    dsimp only at h2
    rw [hq] at h2
    simp only [Bool.and_eq_true, decide_eq_true_eq] at h2
    obtain ⟨⟨⟨⟨a, b⟩, c⟩, d⟩, e⟩ := h2
    exact ⟨a, b, c, d, e⟩
def kindM : Nat → FieldType → Bool
  | 0, .int => true
  | 1, .boolean => true
  | 2, .char => true
  | 3, .byte => true
  | 5, .object _ => true
  | 5, .array _ => true
  | 6, .long => true
  | _, _ => false
def chkT : Bool := (List.range FLL.length).all fun f => match nth FLL f, nth FTY f with
  | some q, some c => match parseFieldDescriptor q.2.2 with
    | some ty => kindM c ty
    | none => false
  | _, _ => false
theorem chkT_ok : chkT = true := by decide +kernel
theorem Nrw_char {x : Int32} (h : Nrw 2 x) : narrow .char (.int x) = .int x ∧ fits .char (.int x) = true := by
  obtain ⟨k, hk, rfl⟩ := h
  exact pk_charN hk
theorem Nrw_byte {x : Int32} (h : Nrw 3 x) : narrow .byte (.int x) = .int x ∧ fits .byte (.int x) = true := by
  have h : x.toInt8.toInt32 = x := h
  rw [← h]
  exact ⟨pk_nb x, pk_fb x⟩
theorem Nrw_bool {x : Int32} (h : Nrw 1 x) : narrow .boolean (.int x) = .int x ∧ fits .boolean (.int x) = true := by
  rcases h with rfl | rfl <;> decide
theorem fit_of {c : Nat} {v : Value} {ty : FieldType} (h : fitW c v) (hk : kindM c ty = true) : narrow ty v = v ∧ fits ty v = true := by
  unfold kindM at hk
  split at hk
  · unfold fitW at h
    cases v <;> first | exact ⟨rfl, rfl⟩ | exact h.elim
  · cases v <;> first | exact Nrw_bool h | exact h.elim
  · cases v <;> first | exact Nrw_char h | exact h.elim
  · cases v <;> first | exact Nrw_byte h | exact h.elim
  · cases v <;> first | exact ⟨rfl, rfl⟩ | exact h.elim
  · cases v <;> first | exact ⟨rfl, rfl⟩ | exact h.elim
  · cases v <;> first | exact ⟨rfl, rfl⟩ | exact h.elim
  · cases hk
theorem fld_ty {f : Nat} {q : String × String × String} (hq : nth FLL f = some q) {v : Value} (h : fitW (fty f) v) : ∃ ty, parseFieldDescriptor q.2.2 = some ty ∧ narrow ty v = v ∧ fits ty v = true := by
  have hf : f < FLL.length := by rw [nth_eq] at hq; exact (List.getElem?_eq_some_iff.mp hq).1
  have h1 := List.all_eq_true.mp chkT_ok f (List.mem_range.mpr hf)
  unfold fty at h
  rw [hq] at h1
  cases hc : nth FTY f with
  | none => rw [hc] at h1; cases h1
  | some c =>
    rw [hc] at h1 h
    dsimp only at h1
    cases ht : parseFieldDescriptor q.2.2 with
    | none => rw [ht] at h1; cases h1
    | some ty =>
      rw [ht] at h1
      exact ⟨ty, rfl, fit_of h h1⟩
def chkN : Bool := (List.range 40).all fun t => match CL[t]? with
  | some r => (List.range r.2.2).all fun a => (List.range r.2.2).all fun b => decide (a = b) || decide ((r.2.1 a).2.1 ≠ (r.2.1 b).2.1)
  | none => true
theorem chkN_ok : chkN = true := by decide +kernel
theorem CL_nm {t : Nat} {r : vw_C} (hr : CL[t]? = some r) : ∀ a, a < r.2.2 → ∀ b, b < r.2.2 → a ≠ b → (r.2.1 a).2.1 ≠ (r.2.1 b).2.1 := by
  intro a ha b hb hab
  have h1 := List.all_eq_true.mp chkN_ok t (List.mem_range.mpr (CL_len hr))
  rw [hr] at h1
  have h2 := List.all_eq_true.mp (List.all_eq_true.mp h1 a (List.mem_range.mpr ha)) b (List.mem_range.mpr hb)
  simp only [Bool.or_eq_true, decide_eq_true_eq] at h2
  rcases h2 with h | h
  · exact absurd h hab
  · exact h
def chkD : Bool := (List.range 40).all fun t => match nth DFT t, CL[t]? with
  | some df, some r => decide (df.length = r.2.2) && (List.range r.2.2).all fun k => match parseFieldDescriptor (r.2.1 k).2.2.1 with
    | some ty => decide (defaultValue ty = vp_V df k)
    | none => false
  | _, _ => false
theorem chkD_ok : chkD = true := by decide +kernel
theorem DFT_ok {t : Nat} {r : vw_C} {df : List Value} (hr : CL[t]? = some r) (hd : nth DFT t = some df) : df.length = r.2.2 ∧ ∀ k, k < r.2.2 → ∃ ty, parseFieldDescriptor (r.2.1 k).2.2.1 = some ty ∧ defaultValue ty = vp_V df k := by
  have h1 := List.all_eq_true.mp chkD_ok t (List.mem_range.mpr (CL_len hr))
  rw [hr, hd] at h1
  simp only [Bool.and_eq_true, decide_eq_true_eq] at h1
  refine ⟨h1.1, fun k hk => ?_⟩
  have h2 := List.all_eq_true.mp h1.2 k (List.mem_range.mpr hk)
  cases ht : parseFieldDescriptor (r.2.1 k).2.2.1 with
  | none => rw [ht] at h2; cases h2
  | some ty =>
    rw [ht] at h2
    exact ⟨ty, rfl, of_decide_eq_true h2⟩
theorem CL_ty {t : Nat} {r : vw_C} (hr : CL[t]? = some r) {k : Nat} (hk : k < r.2.2) : ∃ ty, parseFieldDescriptor (r.2.1 k).2.2.1 = some ty := by
  have h40 := CL_len hr
  have hl : t < DFT.length := Nat.lt_of_lt_of_eq h40 (by decide +kernel)
  obtain ⟨ty, h, -⟩ := (DFT_ok hr (by rw [nth_eq]; exact List.getElem?_eq_getElem hl)).2 k hk
  exact ⟨ty, h⟩
theorem CL_in : ∀ (t : Nat) (r : vw_C), CL[t]? = some r → t < 39 → ∀ w ∈ u_ws r.1 r.2.1 r.2.2, w ∈ lw_all := by
  intro t r h ht
  match t, h, ht with
  | 0, h, _ => cases h; exact in_X1
  | 1, h, _ => cases h; exact in_X2
  | 2, h, _ => cases h; exact in_X3
  | 3, h, _ => cases h; exact in_X5
  | 4, h, _ => cases h; exact in_X6
  | 5, h, _ => cases h; exact in_X8
  | 6, h, _ => cases h; exact in_X20
  | 7, h, _ => cases h; exact in_X15
  | 8, h, _ => cases h; exact in_X16
  | 9, h, _ => cases h; exact in_X17
  | 10, h, _ => cases h; exact in_X18
  | 11, h, _ => cases h; exact in_X19
  | 12, h, _ => cases h; exact in_X11
  | 13, h, _ => cases h; exact in_X12
  | 14, h, _ => cases h; exact in_X13
  | 15, h, _ => cases h; exact in_X14
  | 16, h, _ => cases h; exact in_X26
  | 17, h, _ => cases h; exact in_X25
  | 18, h, _ => cases h; exact in_X9
  | 19, h, _ => cases h; exact in_X4
  | 20, h, _ => cases h; exact in_X21
  | 21, h, _ => cases h; exact in_X22
  | 22, h, _ => cases h; exact in_X24
  | 23, h, _ => cases h; exact in_X28
  | 24, h, _ => cases h; exact in_X23
  | 25, h, _ => cases h; exact in_X27
  | 26, h, _ => cases h; exact in_J6
  | 27, h, _ => cases h; exact in_J5
  | 28, h, _ => cases h; exact in_J9
  | 29, h, _ => cases h; exact in_J29
  | 30, h, _ => cases h; exact in_J3
  | 31, h, _ => cases h; exact in_J28
  | 32, h, _ => cases h; exact in_J33
  | 33, h, _ => cases h; exact in_J22
  | 34, h, _ => cases h; exact in_J21
  | 35, h, _ => cases h; exact in_J20
  | 36, h, _ => cases h; exact in_J13
  | 37, h, _ => cases h; exact in_J23
  | 38, h, _ => cases h; exact in_J25
  | k + 39, _, ht => omega
