/-! certificates of code lists: by the program what a program can see, by the words what links -/
def decAll (b : ByteArray) (l : List Ent) : Bool := l.all fun q => decide (decode b q.1 = .ok (q.2.1, q.2.2.1))
def chain : List Ent → Bool
  | [] => true
  | [_] => true
  | (p, _, n, _) :: (q, i, k, a) :: l => Nat.beq (p + n) q && chain ((q, i, k, a) :: l)
def needW (nL : Nat) (q : Ent) : Bool := !(lkB nL q.1 q.2.1 q.2.2.1 q.2.2.2) && !(dead q.2.1 q.2.2.2)
def LKs (own : String) (ini : Bool) (ret : Option FieldType) : List Ent → Prop
  | [] => True
  | q :: l => LKw own ini ret q.2.1 q.2.2.1 q.2.2.2 ∧ LKs own ini ret l
theorem codeOK_mk {own : String} {ini : Bool} {ret : Option FieldType} {nL : Nat} {cc : ByteArray} : ∀ {C F : List Ent}, decAll cc C = true → chain C = true → C.filter (needW nL) = F → LKs own ini ret F → CodeOK own ini ret nL cc C := by
  intro C
  induction C with
  | nil => intro F _ _ _ _; exact trivial
  | cons q C ih =>
    intro F h1 h2 h3 h4
    obtain ⟨pc, i, len, aux⟩ := q
    have hd : decode cc pc = .ok (i, len) ∧ decAll cc C = true := by
      have := List.all_cons.symm.trans h1
      simp only [Bool.and_eq_true, decide_eq_true_eq] at this
      exact this
    have hc : nextOK (pc + len) C ∧ chain C = true := by
      cases C with
      | nil => exact ⟨trivial, rfl⟩
      | cons q2 C =>
        obtain ⟨pc2, i2, len2, aux2⟩ := q2
        obtain ⟨a, b⟩ := Bool.and_eq_true_iff.mp h2
        exact ⟨(Nat.eq_of_beq_eq_true a).symm, b⟩
    rw [List.filter_cons] at h3
    cases hn : needW nL (pc, i, len, aux) with
    | true =>
      rw [hn, if_pos rfl] at h3
      subst h3
      exact ⟨⟨hd.1, Or.inr (Or.inl h4.1), hc.1⟩, ih hd.2 hc.2 rfl h4.2⟩
    | false =>
      rw [hn] at h3
      have h5 : C.filter (needW nL) = F := by simpa using h3
      refine ⟨⟨hd.1, ?_, hc.1⟩, ih hd.2 hc.2 h5 h4⟩
      simp only [needW, Bool.and_eq_false_iff, Bool.not_eq_false'] at hn
      rcases hn with hn | hn
      · exact Or.inl hn
      · exact Or.inr (Or.inr hn)
theorem sites_of {own : String} {ig : Instr} {len x n : Nat} {l : List (Nat × Nat)} (hl : nth SELT x = some l) (h : ∀ p ∈ l, SITE own ig len p.2 n (p.1 + 2)) : ∀ t y, sel x t = some y → SITE own ig len y n (t + 2) := by
  intro t y hs
  unfold sel at hs
  rw [hl] at hs
  exact h (t, y) (lkp_mem hs)
