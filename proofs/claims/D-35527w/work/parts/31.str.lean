/-! java.lang.String -/
section STR
variable {E : Ev} {g : Hp} {a d : Nat} {s : List Nat} {Q : Post} {X : XPost}
theorem str_coder (h : Str g a s) (hQ : Q (some (.int (nI 0))) g) : Runs E 288 [.ref a] g d Q X := by
  obtain ⟨b, x, y, h1, h2, h3, h4⟩ := h
  refine Runs_from meth_J6_coder (Nat.le_of_ble_eq_true rfl) (from_wp 400 meth_J6_coder nocut ?_)
  conv => whnf
  refine ⟨fun hh => absurd hh (by decide +kernel), fun _ => ?_⟩
  conv => whnf
  refine ⟨_, h1, _, rfl, _, rfl, ?_⟩
  conv => whnf
  exact ⟨nrwB (by omega), hQ⟩
theorem str_isLatin1 (h : Str g a s) (hQ : Q (some (.int (nI 1))) g) : Runs E 292 [.ref a] g d Q X := by
  obtain ⟨b, x, y, h1, h2, h3, h4⟩ := h
  refine Runs_from meth_J6_isLatin1 (Nat.le_of_ble_eq_true rfl) (from_wp 400 meth_J6_isLatin1 nocut ?_)
  conv => whnf
  refine ⟨fun hh => absurd hh (by decide +kernel), fun _ => ?_⟩
  conv => whnf
  refine ⟨_, h1, _, rfl, _, rfl, ?_⟩
  conv => whnf
  refine ⟨fun hh => absurd hh (by decide +kernel), fun _ => ?_⟩
  conv => whnf
  exact ⟨Or.inr rfl, hQ⟩
theorem str_length (h : Str g a s) (hd : 1 ≤ d) (hQ : Q (some (.int (nI s.length))) g) : Runs E 286 [.ref a] g d Q X := by
  have h0 := h
  obtain ⟨b, x, y, h1, h2, h3, h4⟩ := h
  refine Runs_from meth_J6_length (Nat.le_of_ble_eq_true rfl) (from_wp 400 meth_J6_length nocut ?_)
  conv => whnf
  refine ⟨_, h1, _, rfl, _, rfl, ?_⟩
  conv => whnf
  refine ⟨_, h2, Nat.le_refl 100, by rw [chv_len]; omega, ?_⟩
  conv => whnf
  refine ⟨_, h1, _, rfl, rfl, by omega, str_coder h0 ?_⟩
  conv => whnf
  refine ⟨trivial, ?_⟩
  rw [shr0]
  have e : (100, chv s, (none : Option Nat)).2.1.length = s.length := chv_len s
  rw [e]
  exact hQ
theorem str_isEmpty (h : Str g a s) (hQ : Q (some (.int (nI (if s = [] then 1 else 0)))) g) : Runs E 428 [.ref a] g d Q X := by
  obtain ⟨b, x, y, h1, h2, h3, h4⟩ := h
  refine Runs_from meth_J6_isEmpty (Nat.le_of_ble_eq_true rfl) (from_wp 400 meth_J6_isEmpty nocut ?_)
  conv => whnf
  refine ⟨_, h1, _, rfl, _, rfl, ?_⟩
  conv => whnf
  refine ⟨_, h2, Nat.le_refl 100, by rw [chv_len]; omega, ?_⟩
  conv => whnf
  have e : (100, chv s, (none : Option Nat)).2.1.length = s.length := chv_len s
  rw [e]
  refine ⟨fun hh => ?_, fun hh => ?_⟩
  · conv => whnf
    rw [if_neg (fun h => hh (by rw [h]; rfl))] at hQ
    exact ⟨Or.inl rfl, hQ⟩
  · conv => whnf
    have : s = [] := by
      cases s with
      | nil => rfl
      | cons c l => exact absurd (fun he => by rw [nI_eq (by omega) (by omega)] at he; simp at he) hh
    rw [if_pos this] at hQ
    exact ⟨Or.inr rfl, hQ⟩
theorem pre_checkIndex {v : Value} {i n : Nat} (hv : v = .null ∨ ∃ a, v = .ref a) (hi : i < n) (hn : n < 2 ^ 31) (hQ : Q (some (.int (nI i))) g) : Runs E 56 [.int (nI i), .int (nI n), v] g d Q X := by
  rcases hv with rfl | ⟨a, rfl⟩
  all_goals
    refine Runs_from meth_J17_checkIndex (Nat.le_of_ble_eq_true rfl) (from_wp 400 meth_J17_checkIndex nocut ?_)
    conv => whnf
    refine ⟨fun hh => absurd hh (by simp (disch := omega) only [cst, ne_eq, nI_add, nI_ltI, nI_leI, nI_eq]; omega), fun _ => ?_⟩
    conv => whnf
    refine ⟨fun _ => ?_, fun hh => absurd (by simp (disch := omega) only [cst, ne_eq, nI_add, nI_ltI, nI_leI, nI_eq]; omega) hh⟩
    conv => whnf
    exact ⟨trivial, hQ⟩
theorem str_checkIndex {i n : Nat} (hd : 1 ≤ d) (hi : i < n) (hn : n < 2 ^ 31) (hQ : Q none g) : Runs E 26 [.int (nI i), .int (nI n)] g d Q X := by
  refine Runs_from meth_J6_checkIndex (Nat.le_of_ble_eq_true rfl) (from_wp 400 meth_J6_checkIndex nocut ?_)
  conv => whnf
  refine ⟨?_, fun a => ?_⟩
  all_goals
    conv => whnf
    refine ⟨rfl, by omega, pre_checkIndex (by simp) hi hn ?_⟩
    conv => whnf
    exact ⟨trivial, hQ⟩
theorem l1_charAt {b i c : Nat} {fs : List Value} {o : Option Nat} (hb : g.2 b = some (100, fs, o)) (hc : nth fs i = some (.int (nI c))) (h7 : c < 128) (hi : i < fs.length) (hl : fs.length < 2 ^ 31) (hd : 2 ≤ d) (hQ : Q (some (.int (nI c))) g) : Runs E 99 [.ref b, .int (nI i)] g d Q X := by
  refine Runs_from meth_J18_charAt (Nat.le_of_ble_eq_true rfl) (from_wp 400 meth_J18_charAt nocut ?_)
  conv => whnf
  refine ⟨_, hb, Nat.le_refl 100, hl, ?_⟩
  conv => whnf
  refine ⟨rfl, by omega, str_checkIndex (by omega) hi hl ?_⟩
  conv => whnf
  refine ⟨_, hb, Or.inl rfl, _, rfl, by omega, _, hc, ?_⟩
  conv => whnf
  simp only [cst, lat1 h7]
  exact ⟨nrwC (by omega), hQ⟩
theorem str_charAt {i c : Nat} (h : Str g a s) (hc : s[i]? = some c) (hd : 3 ≤ d) (hQ : Q (some (.int (nI c))) g) : Runs E 381 [.ref a, .int (nI i)] g d Q X := by
  have h0 := h
  obtain ⟨b, x, y, h1, h2, h3, h4⟩ := h
  have hi := (List.getElem?_eq_some_iff.mp hc).1
  have h7 := h3 c (List.mem_of_getElem? hc)
  refine Runs_from meth_J6_charAt (Nat.le_of_ble_eq_true rfl) (from_wp 400 meth_J6_charAt nocut ?_)
  conv => whnf
  refine ⟨_, h1, _, rfl, rfl, by omega, str_isLatin1 h0 ?_⟩
  conv => whnf
  refine ⟨fun hh => absurd hh (by decide +kernel), fun _ => ?_⟩
  conv => whnf
  refine ⟨_, h1, _, rfl, _, rfl, ?_⟩
  conv => whnf
  refine ⟨rfl, by omega, l1_charAt h2 (nth_chv hc) h7 (by rw [chv_len]; exact hi) (by rw [chv_len]; omega) (by omega) ?_⟩
  conv => whnf
  exact ⟨nrwC (by omega), hQ⟩
end STR
