/-! String: equals, indexOf, substring, toCharArray, valueOf -/
section STR2
variable {E : Ev} {g : Hp} {a b d : Nat} {s t : List Nat} {Q : Post} {X : XPost}
theorem l1_equals {o1 o2 : Option Nat} (h1 : g.2 a = some (100, chv s, o1)) (h2 : g.2 b = some (100, chv t, o2)) (hs : s.length < 2 ^ 20) (ht : t.length < 2 ^ 20) (ks : asc7 s) (kt : asc7 t) (hQ : Q (some (.int (nI (decide (s = t)).toNat))) g) : Runs E 106 [.ref a, .ref b] g d Q X := by
  have e1 : (chv s).length = s.length := chv_len s
  have e2 : (chv t).length = t.length := chv_len t
  have loop : ∀ n k, k ≤ s.length → s.length - k = n → s.length = t.length → (∀ j, j < k → s[j]? = t[j]?) → From E 106 "java/lang/StringLatin1" false d Q X 9 [some (.inl (.ref a)), some (.inl (.ref b)), some (.inl (.int (nI k)))] [] g := by
    intro n
    induction n with
    | zero =>
      intro k hk hn hl hp
      have : k = s.length := by omega
      subst this
      have hst : s = t := by
        apply List.ext_getElem?
        intro j
        by_cases hj : j < s.length
        · exact hp j hj
        · rw [List.getElem?_eq_none (by omega), List.getElem?_eq_none (by omega)]
      rw [decide_eq_true hst] at hQ
      refine from_wp 400 meth_J18_equals (selfcut 9) ?_
      conv => whnf
      refine ⟨_, h1, Nat.le_of_ble_eq_true rfl, by first | omega | (dsimp only; omega) | (simp only [List.length_append]; omega) | (simp; omega) | simp, ?_⟩
      conv => whnf
      dsimp only
      rw [e1]
      refine ⟨fun _ => ?_, fun hh => absurd (by simp (disch := omega) only [cst, ne_eq, nI_add, nI_ltI, nI_leI, nI_eq]; omega) hh⟩
      conv => whnf
      exact ⟨Or.inr rfl, hQ⟩
    | succ n ih =>
      intro k hk hn hl hp
      have hks : k < s.length := by omega
      have hkt : k < t.length := by omega
      have q1 : s[k]? = some s[k] := List.getElem?_eq_getElem hks
      have q2 : t[k]? = some t[k] := List.getElem?_eq_getElem hkt
      have r1 : s[k] < 128 := ks _ (List.getElem_mem hks)
      have r2 : t[k] < 128 := kt _ (List.getElem_mem hkt)
      refine from_wp 400 meth_J18_equals (selfcut 9) ?_
      conv => whnf
      refine ⟨_, h1, Nat.le_of_ble_eq_true rfl, by first | omega | (dsimp only; omega) | (simp only [List.length_append]; omega) | (simp; omega) | simp, ?_⟩
      conv => whnf
      dsimp only
      rw [e1]
      refine ⟨fun hh => absurd hh (by simp (disch := omega) only [cst, ne_eq, nI_add, nI_ltI, nI_leI, nI_eq]; omega), fun _ => ?_⟩
      conv => whnf
      refine ⟨_, h1, Or.inl rfl, k, rfl, by omega, _, nth_chv q1, ?_⟩
      conv => whnf
      refine ⟨_, h2, Or.inl rfl, k, rfl, by omega, _, nth_chv q2, ?_⟩
      conv => whnf
      refine ⟨fun hh => ?_, fun hh => ?_⟩
      all_goals
        rw [nI_eq (by omega) (by omega)] at hh
        conv => whnf
      · simp only [nI_add]
        refine ⟨trivial, ih (k + 1) (by omega) (by omega) hl fun j hj => ?_⟩
        by_cases e : j = k
        · subst e; rw [q1, q2, hh]
        · exact hp j (by omega)
      · have hst : ¬ s = t := fun e => by subst e; exact hh rfl
        rw [decide_eq_false hst] at hQ
        exact ⟨Or.inl rfl, hQ⟩
  refine Runs_from meth_J18_equals (Nat.le_of_ble_eq_true rfl) (from_wp 400 meth_J18_equals (selfcut 9) ?_)
  conv => whnf
  refine ⟨_, h1, Nat.le_of_ble_eq_true rfl, by first | omega | (dsimp only; omega) | (simp only [List.length_append]; omega) | (simp; omega) | simp, ?_⟩
  conv => whnf
  refine ⟨_, h2, Nat.le_of_ble_eq_true rfl, by first | omega | (dsimp only; omega) | (simp only [List.length_append]; omega) | (simp; omega) | simp, ?_⟩
  conv => whnf
  dsimp only
  rw [e1, e2]
  refine ⟨fun hh => ?_, fun hh => ?_⟩
  · have hl : ¬ s.length = t.length := fun e => hh (by rw [e])
    have hst : ¬ s = t := fun e => hl (by rw [e])
    rw [decide_eq_false hst] at hQ
    conv => whnf
    exact ⟨Or.inl rfl, hQ⟩
  · have hl := Decidable.not_not.mp hh
    rw [nI_eq (by omega) (by omega)] at hl
    conv => whnf
    exact ⟨trivial, loop s.length 0 (by omega) (by omega) hl (fun j hj => by omega)⟩
theorem Str.uniq {x : Nat} (h : Str g x s) (h' : Str g x t) : s = t := by
  obtain ⟨b1, u1, v1, p1, p2, p3, p4⟩ := h
  obtain ⟨b2, u2, v2, q1, q2, q3, q4⟩ := h'
  rw [p1] at q1
  cases q1
  rw [p2] at q2
  have q2 : chv s = chv t := by
    have := Option.some.inj q2
    exact congrArg (fun x => x.2.1) this
  have hl : s.length = t.length := by rw [← chv_len s, ← chv_len t, q2]
  apply List.ext_getElem hl
  intro i h1 h2
  have r1 := nth_chv (List.getElem?_eq_getElem h1)
  have r2 := nth_chv (List.getElem?_eq_getElem h2)
  rw [q2, r2] at r1
  have r3 : nI t[i] = nI s[i] := by
    have := Option.some.inj r1
    injection this
  exact ((nI_eq (by have := q3 _ (List.getElem_mem h2); omega) (by have := p3 _ (List.getElem_mem h1); omega)).mp r3).symm
theorem str_equals (ha : Str g a s) (hb : Str g b t) (hd : 2 ≤ d) (hQ : Q (some (.int (nI (decide (s = t)).toNat))) g) : Runs E 284 [.ref a, .ref b] g d Q X := by
  obtain ⟨b1, u1, v1, p1, p2, p3, p4⟩ := id ha
  obtain ⟨b2, u2, v2, q1, q2, q3, q4⟩ := id hb
  refine Runs_from meth_J6_equals (Nat.le_of_ble_eq_true rfl) (from_wp 400 meth_J6_equals nocut ?_)
  conv => whnf
  refine ⟨fun hh => ?_, fun hh => ?_⟩
  · subst hh
    rw [decide_eq_true (ha.uniq hb)] at hQ
    conv => whnf
    exact ⟨Or.inr rfl, hQ⟩
  · conv => whnf
    refine ⟨_, q1, Or.inl ⟨rfl, ?_⟩⟩
    conv => whnf
    refine ⟨fun hh => absurd hh (by decide +kernel), fun _ => ?_⟩
    conv => whnf
    refine ⟨_, q1, rfl, ?_⟩
    conv => whnf
    refine ⟨fun hh => absurd hh (by decide +kernel), fun _ => ?_⟩
    conv => whnf
    refine ⟨_, p1, _, rfl, _, rfl, ?_⟩
    conv => whnf
    refine ⟨_, q1, _, rfl, _, rfl, ?_⟩
    conv => whnf
    refine ⟨fun hh => absurd hh (fun h => h rfl), fun _ => ?_⟩
    conv => whnf
    refine ⟨_, p1, _, rfl, _, rfl, ?_⟩
    conv => whnf
    refine ⟨_, q1, _, rfl, _, rfl, ?_⟩
    conv => whnf
    refine ⟨rfl, by omega, l1_equals p2 q2 p4 q4 p3 q3 ?_⟩
    conv => whnf
    by_cases hst : s = t
    · rw [decide_eq_true hst] at hQ ⊢
      refine ⟨fun hh => absurd hh (by decide +kernel), fun _ => ?_⟩
      conv => whnf
      exact ⟨Or.inr rfl, hQ⟩
    · rw [decide_eq_false hst] at hQ ⊢
      refine ⟨fun _ => ?_, fun hh => absurd (by decide +kernel) hh⟩
      conv => whnf
      exact ⟨Or.inl rfl, hQ⟩
theorem i2b_is {c x : Nat} (hc : c < 256) (hx : x < 128) : nI x = (nI c).toInt8.toInt32 ↔ x = c := by
  by_cases h : c < 128
  · rw [i2b_c h, nI_eq (by omega) (by omega)]
  · have h5 : ∀ n : Fin 256, 128 ≤ n.val → (nI n.val).toInt8.toInt32 < nI 0 := by decide +kernel
    have h6 := h5 ⟨c, hc⟩ (by show 128 ≤ c; omega)
    constructor
    · intro e
      rw [← e] at h6
      exact absurd ((nI_ltI (by omega) (by omega)).mp h6) (by omega)
    · intro e; omega
theorem l1_indexOfChar {o1 : Option Nat} {c : Nat} (h1 : g.2 a = some (100, chv s, o1)) (hs : s.length < 2 ^ 20) (ks : asc7 s) (hc : c < 256) (hQ1 : ∀ i, s[i]? = some c → (∀ j, j < i → s[j]? ≠ some c) → Q (some (.int (nI i))) g) (hQ2 : c ∉ s → Q (some (.int (- nI 1))) g) : Runs E 35 [.ref a, .int (nI c), .int (nI 0), .int (nI s.length)] g d Q X := by
  have loop : ∀ n k, k ≤ s.length → s.length - k = n → (∀ j, j < k → s[j]? ≠ some c) → From E 35 "java/lang/StringLatin1" false d Q X 7 [some (.inl (.ref a)), some (.inl (.int (nI c))), some (.inl (.int (nI 0))), some (.inl (.int (nI s.length))), some (.inl (.int ((nI c).toInt8.toInt32))), some (.inl (.int (nI k)))] [] g := by
    intro n
    induction n with
    | zero =>
      intro k hk hn hp
      have : k = s.length := by omega
      subst this
      refine from_wp 400 meth_J18_indexOfChar (selfcut 7) ?_
      conv => whnf
      refine ⟨fun _ => ?_, fun hh => absurd (by simp (disch := omega) only [cst, ne_eq, nI_add, nI_ltI, nI_leI, nI_eq]; omega) hh⟩
      conv => whnf
      refine ⟨trivial, hQ2 fun hm => ?_⟩
      obtain ⟨i, hi⟩ := List.getElem?_of_mem hm
      exact hp i (List.getElem?_eq_some_iff.mp hi).1 hi
    | succ n ih =>
      intro k hk hn hp
      have hks : k < s.length := by omega
      have q1 : s[k]? = some s[k] := List.getElem?_eq_getElem hks
      have r1 : s[k] < 128 := ks _ (List.getElem_mem hks)
      refine from_wp 400 meth_J18_indexOfChar (selfcut 7) ?_
      conv => whnf
      refine ⟨fun hh => absurd hh (by simp (disch := omega) only [cst, ne_eq, nI_add, nI_ltI, nI_leI, nI_eq]; omega), fun _ => ?_⟩
      conv => whnf
      refine ⟨_, h1, Or.inl rfl, k, rfl, by omega, _, nth_chv q1, ?_⟩
      conv => whnf
      refine ⟨fun hh => ?_, fun hh => ?_⟩
      · have hh : ¬ s[k] = c := fun e => hh ((i2b_is hc r1).mpr e)
        conv => whnf
        simp only [nI_add]
        refine ⟨trivial, ih (k + 1) (by omega) (by omega) fun j hj => ?_⟩
        by_cases e : j = k
        · subst e; rw [q1]; exact fun e9 => hh (Option.some.inj e9)
        · exact hp j (by omega)
      · have hh := (i2b_is hc r1).mp (Decidable.not_not.mp hh)
        conv => whnf
        exact ⟨trivial, hQ1 k (by rw [q1, hh]) hp⟩
  refine Runs_from meth_J18_indexOfChar (Nat.le_of_ble_eq_true rfl) (from_wp 400 meth_J18_indexOfChar (selfcut 7) ?_)
  conv => whnf
  exact ⟨trivial, loop s.length 0 (by omega) (by omega) (fun j hj => by omega)⟩
theorem str_indexOf {c : Nat} (h : Str g a s) (hc : c < 65536) (hd : 4 ≤ d) (hQ1 : ∀ i, s[i]? = some c → (∀ j, j < i → s[j]? ≠ some c) → Q (some (.int (nI i))) g) (hQ2 : c ∉ s → Q (some (.int (- nI 1))) g) : Runs E 413 [.ref a, .int (nI c)] g d Q X := by
  obtain ⟨b1, u1, v1, p1, p2, p3, p4⟩ := id h
  have e1 : (chv s).length = s.length := chv_len s
  refine Runs_from meth_J6_indexOf (Nat.le_of_ble_eq_true rfl) (from_wp 400 meth_J6_indexOf nocut ?_)
  conv => whnf
  refine ⟨_, p1, _, rfl, rfl, by omega, ?_⟩
  refine Runs_from meth_J6_indexOf_2 (Nat.le_of_ble_eq_true rfl) (from_wp 400 meth_J6_indexOf_2 nocut ?_)
  conv => whnf
  refine ⟨_, p1, _, rfl, rfl, by omega, str_isLatin1 h ?_⟩
  conv => whnf
  refine ⟨fun hh => absurd hh (by decide +kernel), fun _ => ?_⟩
  conv => whnf
  refine ⟨_, p1, _, rfl, _, rfl, ?_⟩
  conv => whnf
  refine ⟨_, p1, _, rfl, rfl, by omega, str_length h (by omega) ?_⟩
  conv => whnf
  refine ⟨rfl, by omega, ?_⟩
  refine Runs_from meth_J18_indexOf (Nat.le_of_ble_eq_true rfl) (from_wp 400 meth_J18_indexOf nocut ?_)
  conv => whnf
  refine ⟨rfl, by omega, ?_⟩
  refine Runs_from meth_J18_canEncode_2 (Nat.le_of_ble_eq_true rfl) (from_wp 400 meth_J18_canEncode_2 nocut ?_)
  conv => whnf
  refine ⟨fun hh => absurd hh (by simp (disch := omega) only [cst, ne_eq, nI_add, nI_ltI, nI_leI, nI_eq]; omega), fun _ => ?_⟩
  conv => whnf
  have fin0 : c ∉ s → nI s.length = nI s.length → Q (some (.int (- nI 1))) g := fun h _ => hQ2 h
  refine ⟨fun hh => ?_, fun hh => ?_⟩
  · have hh : 255 < c := (nI_ltI (by omega) (by omega)).mp hh
    conv => whnf
    refine ⟨Or.inl rfl, ?_⟩
    conv => whnf
    refine ⟨fun hh => absurd hh (by decide +kernel), fun _ => ?_⟩
    conv => whnf
    refine ⟨trivial, ?_⟩
    conv => whnf
    refine ⟨trivial, ?_⟩
    conv => whnf
    refine ⟨trivial, hQ2 fun hm => ?_⟩
    have := p3 c hm
    omega
  · have hh : ¬ 255 < c := fun e => hh ((nI_ltI (by omega) (by omega)).mpr e)
    conv => whnf
    refine ⟨Or.inr rfl, ?_⟩
    conv => whnf
    refine ⟨fun _ => ?_, fun hh => absurd (by decide +kernel) hh⟩
    conv => whnf
    refine ⟨rfl, by omega, math_max (by omega) (by omega) ?_⟩
    conv => whnf
    refine ⟨_, p2, Nat.le_of_ble_eq_true rfl, by first | omega | (dsimp only; omega) | (simp only [List.length_append]; omega) | (simp; omega) | simp, ?_⟩
    conv => whnf
    dsimp only
    rw [e1]
    refine ⟨rfl, by omega, math_min (by omega) (by omega) ?_⟩
    conv => whnf
    rw [Nat.max_self, Nat.min_self]
    refine ⟨fun h0 => ?_, fun h0 => ?_⟩
    · conv => whnf
      refine ⟨rfl, by omega, l1_indexOfChar p2 p4 p3 (by omega) (fun i q1 q2 => ?_) (fun q1 => ?_)⟩
      all_goals
        conv => whnf
        refine ⟨trivial, ?_⟩
        conv => whnf
        refine ⟨trivial, ?_⟩
        conv => whnf
        refine ⟨trivial, ?_⟩
      · exact hQ1 i q1 q2
      · exact hQ2 q1
    · have h0 : ¬ 0 < s.length := fun e => h0 ((nI_ltI (by omega) (by omega)).mpr e)
      have hs0 : s = [] := List.length_eq_zero_iff.mp (by omega)
      conv => whnf
      refine ⟨trivial, ?_⟩
      conv => whnf
      refine ⟨trivial, ?_⟩
      conv => whnf
      refine ⟨trivial, hQ2 (by rw [hs0]; simp)⟩
end STR2
