/-! java.util.ArrayList -/
def AL (g : Hp) (a : Nat) (l : List Value) (o : Option Nat) : Prop := ∃ mc b tl ob, g.2 a = some (28, [.int mc, .ref b, .int (nI l.length)], o) ∧ g.2 b = some (105, l ++ tl, ob) ∧ (ob = o ∨ (ob = none ∧ l ++ tl = [])) ∧ (l ++ tl).length < 2 ^ 20
section AL
variable {E : Ev} {g : Hp} {a d : Nat} {l : List Value} {o : Option Nat} {Q : Post} {X : XPost}
theorem al_size (h : AL g a l o) (hQ : Q (some (.int (nI l.length))) g) : Runs E 252 [.ref a] g d Q X := by
  obtain ⟨mc, b, tl, ob, h1, h2, h3, h4⟩ := h
  refine Runs_from meth_J9_size (Nat.le_of_ble_eq_true rfl) (from_wp 400 meth_J9_size nocut ?_)
  conv => whnf
  refine ⟨_, h1, _, rfl, _, rfl, ?_⟩
  conv => whnf
  exact ⟨trivial, hQ⟩
theorem al_isEmpty (h : AL g a l o) (hQ : Q (some (.int (nI (if l = [] then 1 else 0)))) g) : Runs E 368 [.ref a] g d Q X := by
  obtain ⟨mc, b, tl, ob, h1, h2, h3, h4⟩ := h
  have hlen : l.length < 2 ^ 20 := by rw [List.length_append] at h4; omega
  refine Runs_from meth_J9_isEmpty (Nat.le_of_ble_eq_true rfl) (from_wp 400 meth_J9_isEmpty nocut ?_)
  conv => whnf
  refine ⟨_, h1, _, rfl, _, rfl, ?_⟩
  conv => whnf
  refine ⟨fun hh => ?_, fun hh => ?_⟩
  · conv => whnf
    rw [if_neg (fun h => hh (by rw [h]; rfl))] at hQ
    exact ⟨Or.inl rfl, hQ⟩
  · conv => whnf
    have : l = [] := by
      cases l with
      | nil => rfl
      | cons c l => exact absurd (fun he => by rw [nI_eq (by omega) (by omega)] at he; simp at he) hh
    rw [if_pos this] at hQ
    exact ⟨Or.inr rfl, hQ⟩
theorem al_get {i : Nat} {v : Value} (h : AL g a l o) (hv : l[i]? = some v) (hr : v = .null ∨ ∃ x, v = .ref x) (hd : 4 ≤ d) (hQ : Q (some v) g) : Runs E 367 [.ref a, .int (nI i)] g d Q X := by
  obtain ⟨mc, b, tl, ob, h1, h2, h3, h4⟩ := h
  have hlen : l.length < 2 ^ 20 := by rw [List.length_append] at h4; omega
  have hi := (List.getElem?_eq_some_iff.mp hv).1
  refine Runs_from meth_J9_get (Nat.le_of_ble_eq_true rfl) (from_wp 400 meth_J9_get nocut ?_)
  conv => whnf
  refine ⟨_, h1, _, rfl, _, rfl, ?_⟩
  conv => whnf
  refine ⟨rfl, by omega, ?_⟩
  refine Runs_from meth_J27_checkIndex (Nat.le_of_ble_eq_true rfl) (from_wp 400 meth_J27_checkIndex nocut ?_)
  conv => whnf
  refine ⟨rfl, by omega, pre_checkIndex (Or.inl rfl) hi (by omega) ?_⟩
  conv => whnf
  refine ⟨trivial, ?_⟩
  conv => whnf
  refine ⟨_, h1, _, rfl, rfl, by omega, ?_⟩
  refine Runs_from meth_J9_elementData (Nat.le_of_ble_eq_true rfl) (from_wp 400 meth_J9_elementData nocut ?_)
  conv => whnf
  refine ⟨_, h1, _, rfl, _, rfl, ?_⟩
  conv => whnf
  have hn : nth (l ++ tl) i = some v := nth_app (by rw [nth_eq]; exact hv)
  refine ⟨_, h2, Nat.le_refl 105, i, rfl, by omega, v, hn, ?_⟩
  rcases hr with rfl | ⟨x, rfl⟩
  all_goals
    conv => whnf
    refine ⟨trivial, ?_⟩
    conv => whnf
    exact ⟨trivial, hQ⟩
end AL
