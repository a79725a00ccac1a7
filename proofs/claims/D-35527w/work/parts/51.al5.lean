/-! ArrayList.addAll of a deque; removal of what is not there -/
section AL5
variable {E : Ev} {g : Hp} {a d : Nat} {l m : List Value} {o : Option Nat} {Q : Post} {X : XPost}
theorem cpyL_app {l m tl : List Value} (h : m.length ≤ tl.length) : cpyL m 0 (l ++ tl) l.length m.length = (l ++ m) ++ tl.drop m.length := by
  unfold cpyL
  rw [List.take_left, List.drop_zero, List.take_of_length_le (Nat.le_refl _), List.drop_length_add_append]
theorem al_addAllD {x cap dcap : Nat} (h : ALc g a l cap) (hx : DQ g x m dcap) (hxa : x ≠ a) (hk : l.length + m.length < 2 ^ 17) (hcp : cap < 2 ^ 18) (hd : 7 ≤ d) (hl : g.1 + 10 + m.length + max (l.length + m.length) (cap + cap / 2 + 10) ≤ LIM) (hQ : ∀ g' cap' v, ALc g' a (l ++ m) cap' → cap' ≤ max (l.length + m.length) (cap + cap / 2 + 10) → Fr (fun w => w = a) (10 + m.length + cap') g g' → Q (some (.int v)) g') : Runs E 374 [.ref a, .ref x] g d Q X := by
  obtain ⟨mc, b, tl, ob, h1, h2, h3, h4, h5⟩ := id h
  obtain ⟨xb, x1, x2, x3, x4⟩ := id hx
  have hF := Fr.refl (S := (fun w => w = a)) (n := 0) (g := g)
  refine Runs_from meth_J9_addAll (Nat.le_of_ble_eq_true rfl) (from_wp 400 meth_J9_addAll (selfcut 56) ?_)
  conv => whnf
  refine ⟨_, x1, _, rfl, rfl, by omega, dq_toArray (w := x) hx (by omega) (by omega) fun g1 y hn => ?_⟩
  conv => whnf
  have hF := hF.trans (Fr.new (S := fun w => w = a) hn) (fun w hw => Or.inl hw)
  have h1 := (hn.2.2.2 _ (ne_new hn.1 h1)).trans h1
  have h2 := (hn.2.2.2 _ (ne_new hn.1 h2)).trans h2
  have hy := hn.2.2.1
  have hyb : b ≠ y := fun e => by subst e; have := hn.1; obtain ⟨mc9, b9, tl9, ob9, p1, p2, -⟩ := h; simp_all
  have hg1 : g1.1 = g.1 + 5 + m.length := hn.2.1
  refine ⟨_, h1, _, rfl, _, rfl, ?_⟩
  conv => whnf
  refine ⟨_, _, _, h1, rfl, _, rfl, by simp, trivial, fun g2 hp2 => ?_⟩
  conv => whnf
  have h2 := (hp2.2.2 _ (ne_tag h1 h2 rfl)).trans h2
  have hy := (hp2.2.2 _ (ne_tag h1 hy rfl)).trans hy
  have hF := hF.trans (Fr.put (S := (fun w => w = a)) h1 hp2 (Or.inl rfl)) (fun w hw => Or.inl hw)
  have h1 := hp2.2.1
  dsimp only [List.set] at h1
  have hg2 : g2.1 = g1.1 := hp2.1
  refine ⟨_, hy, Nat.le_of_ble_eq_true rfl, by show m.length < _; omega, ?_⟩
  conv => whnf
  dsimp only
  have hE : (l ++ tl).length = cap := by rw [List.length_append]; exact h4
  refine ⟨fun hm => ?_, fun hm => ?_⟩
  · have hm : ¬ m.length = 0 := fun e => hm (by rw [e])
    conv => whnf
    refine ⟨_, h1, _, rfl, _, rfl, ?_⟩
    conv => whnf
    refine ⟨_, h2, Nat.le_of_ble_eq_true rfl, by show (l ++ tl).length < _; omega, ?_⟩
    conv => whnf
    dsimp only
    rw [hE]
    refine ⟨_, h1, _, rfl, _, rfl, ?_⟩
    conv => whnf
    rw [nI_sub (show l.length ≤ cap by omega)]
    have fin : ∀ (g3 : Hp) (b' : Nat) (mc' : Int32) (tl' : List Value), b' ≠ a → g3.2 a = some (28, [.int mc', .ref b', .int (nI l.length)], some a) → g3.2 b' = some (105, l ++ tl', some a) → g3.2 y = some (105, m, some x) → m.length ≤ tl'.length → l.length + tl'.length ≤ max (l.length + m.length) (cap + cap / 2 + 10) → Fr (fun w => w = a) (10 + m.length + (l.length + tl'.length)) g g3 → From E 374 "java/util/ArrayList" false d Q X 56 [some (.inl (.ref a)), some (.inl (.ref x)), some (.inl (.ref y)), some (.inl (.int (nI m.length))), some (.inl (.ref b')), some (.inl (.int (nI l.length)))] [] g3 := by
      intro g3 b' mc' tl' hb'a e1 e2 ey hlt hle hF3
      refine from_wp 400 meth_J9_addAll nocut ?_
      conv => whnf
      refine ⟨rfl, by omega, _, _, _, _, _, ey, e2, by omega, by omega, m.length, l.length, 0, rfl, rfl, rfl, by omega, by omega, by omega, by omega, by rw [List.length_append]; omega, fun g4 hp4 => ?_⟩
      conv => whnf
      rw [cpyL_app hlt] at hp4
      have hF4 := hF3.trans (Fr.put (S := fun w => w = a) e2 hp4 (Or.inl rfl)) (fun w hw => Or.inl hw)
      have e1 := (hp4.2.2 _ (Ne.symm hb'a)).trans e1
      simp only [nI_add]
      refine ⟨_, _, _, e1, rfl, _, rfl, by simp, trivial, fun g5 hp5 => ?_⟩
      conv => whnf
      have hF5 := hF4.trans (Fr.put (S := fun w => w = a) e1 hp5 (Or.inl rfl)) (fun w hw => Or.inl hw)
      refine ⟨Or.inr rfl, hQ g5 (l.length + tl'.length) _ ⟨mc', b', tl'.drop m.length, some a, by rw [List.length_append]; exact hp5.2.1, (hp5.2.2 _ hb'a).trans hp4.2.1, Or.inl rfl, by rw [List.length_append, List.length_drop]; omega, by omega⟩ hle hF5⟩
    refine ⟨fun hg => ?_, fun hg => ?_⟩
    · have hg : m.length ≤ cap - l.length := (nI_leI (by omega) (by omega)).mp hg
      have hob : ob = some a := h3.elim id fun h => by rw [h.2] at hE; simp at hE; omega
      subst hob
      conv => whnf
      exact ⟨trivial, fin g2 b _ tl (ne_tag h1 h2 rfl) h1 h2 hy (by omega) (by omega) (hF.weak (fun w hw => Or.inl hw) (by omega))⟩
    · have hg : ¬ m.length ≤ cap - l.length := fun e => hg ((nI_leI (by omega) (by omega)).mpr e)
      have hS : ALc g2 a l cap := ⟨_, b, tl, ob, h1, h2, h3, h4, h5⟩
      conv => whnf
      simp only [nI_add]
      refine ⟨_, h1, _, rfl, rfl, by omega, al_grow2 hS (by omega) (by omega) (by omega) (by omega) fun g3 b' mc' tl' e1 e2 q1 q2 f3 => ?_⟩
      conv => whnf
      have hy3 := f3.own hy hxa (hF.ex (by rw [x1]; simp))
      exact ⟨trivial, fin g3 b' mc' tl' (ne_tag e1 e2 rfl) e1 e2 hy3 (by omega) (by omega) ((hF.trans f3 fun w hw => Or.inl hw).weak (fun w hw => Or.inl hw) (by omega))⟩
  · have hm : m.length = 0 := by
      have := Decidable.not_not.mp hm
      rwa [nI_eq (by omega) (by omega)] at this
    have hm0 : m = [] := List.length_eq_zero_iff.mp hm
    subst hm0
    conv => whnf
    refine ⟨Or.inl rfl, hQ g2 cap _ ⟨_, b, tl, ob, by rw [List.append_nil]; exact h1, by rw [List.append_nil]; exact h2, by rw [List.append_nil]; exact h3, by rw [List.append_nil]; exact h4, h5⟩ (by omega) (hF.weak (fun w hw => Or.inl hw) (by simp; omega))⟩
/-- removal of an object that is not there -/
theorem al_remove2N {cap x : Nat} (h : ALc g a l cap) (hall : ∀ v ∈ l, ∃ y, v = .ref y) (hf : .ref x ∉ l) (hx : ∃ c, g.2 x = some c ∧ sel 39 c.1 = some 283) (hd : 5 ≤ d) (hQ : Q (some (.int (nI 0))) g) : Runs E 455 [.ref a, .ref x] g d Q X := by
  obtain ⟨mc, b, tl, ob, h1, h2, h3, h4, h5⟩ := h
  obtain ⟨cx, hx1, hx2⟩ := hx
  have loop : ∀ n j, j ≤ l.length → l.length - j = n → From E 455 "java/util/ArrayList" false d Q X 39 [some (.inl (.ref a)), some (.inl (.ref x)), some (.inl (.ref b)), some (.inl (.int (nI l.length))), some (.inl (.int (nI j)))] [] g := by
    intro n
    induction n with
    | zero =>
      intro j hj hn
      refine from_wp 400 meth_J9_remove_2 (selfcut 39) ?_
      conv => whnf
      refine ⟨fun _ => ?_, fun hh => absurd (by simp (disch := omega) only [cst, ne_eq, nI_add, nI_ltI, nI_leI, nI_eq]; omega) hh⟩
      conv => whnf
      exact ⟨Or.inl rfl, hQ⟩
    | succ n ih =>
      intro j hj hn
      have hjl : j < l.length := by omega
      obtain ⟨y, hy⟩ := hall l[j] (List.getElem_mem hjl)
      have hy2 : l[j]? = some (.ref y) := by rw [List.getElem?_eq_getElem hjl, hy]
      have hne : ¬ x = y := fun e => hf (by subst e; exact List.mem_of_getElem? hy2)
      refine from_wp 400 meth_J9_remove_2 (selfcut 39) ?_
      conv => whnf
      refine ⟨fun hh => absurd hh (by simp (disch := omega) only [cst, ne_eq, nI_add, nI_ltI, nI_leI, nI_eq]; omega), fun _ => ?_⟩
      conv => whnf
      refine ⟨_, h2, Nat.le_refl 105, j, rfl, by omega, .ref y, nth_app (by rw [nth_eq]; exact hy2), ?_⟩
      conv => whnf
      refine ⟨_, hx1, _, hx2, rfl, by omega, ?_⟩
      refine Runs_from meth_J39_equals (Nat.le_of_ble_eq_true rfl) (from_wp 400 meth_J39_equals nocut ?_)
      conv => whnf
      refine ⟨fun h => absurd h hne, fun _ => ?_⟩
      conv => whnf
      refine ⟨Or.inl rfl, ?_⟩
      conv => whnf
      refine ⟨fun _ => ?_, fun hh => absurd (by decide +kernel) hh⟩
      conv => whnf
      simp only [nI_add]
      exact ⟨trivial, ih (j + 1) (by omega) (by omega)⟩
  refine Runs_from meth_J9_remove_2 (Nat.le_of_ble_eq_true rfl) (from_wp 400 meth_J9_remove_2 (selfcut 39) ?_)
  conv => whnf
  refine ⟨_, h1, _, rfl, _, rfl, ?_⟩
  conv => whnf
  refine ⟨_, h1, _, rfl, _, rfl, ?_⟩
  conv => whnf
  refine ⟨trivial, loop l.length 0 (by omega) (by omega)⟩
/-- null can't be there -/
theorem al_removeNull {cap : Nat} (h : ALc g a l cap) (hall : ∀ v ∈ l, ∃ y, v = .ref y) (hd : 5 ≤ d) (hQ : Q (some (.int (nI 0))) g) : Runs E 455 [.ref a, .null] g d Q X := by
  obtain ⟨mc, b, tl, ob, h1, h2, h3, h4, h5⟩ := h
  have loop : ∀ n j, j ≤ l.length → l.length - j = n → From E 455 "java/util/ArrayList" false d Q X 17 [some (.inl (.ref a)), some (.inl .null), some (.inl (.ref b)), some (.inl (.int (nI l.length))), some (.inl (.int (nI j)))] [] g := by
    intro n
    induction n with
    | zero =>
      intro j hj hn
      refine from_wp 400 meth_J9_remove_2 (selfcut 17) ?_
      conv => whnf
      refine ⟨fun _ => ?_, fun hh => absurd (by simp (disch := omega) only [cst, ne_eq, nI_add, nI_ltI, nI_leI, nI_eq]; omega) hh⟩
      conv => whnf
      exact ⟨Or.inl rfl, hQ⟩
    | succ n ih =>
      intro j hj hn
      have hjl : j < l.length := by omega
      obtain ⟨y, hy⟩ := hall l[j] (List.getElem_mem hjl)
      have hy2 : l[j]? = some (.ref y) := by rw [List.getElem?_eq_getElem hjl, hy]
      refine from_wp 400 meth_J9_remove_2 (selfcut 17) ?_
      conv => whnf
      refine ⟨fun hh => absurd hh (by simp (disch := omega) only [cst, ne_eq, nI_add, nI_ltI, nI_leI, nI_eq]; omega), fun _ => ?_⟩
      conv => whnf
      refine ⟨_, h2, Nat.le_refl 105, j, rfl, by omega, .ref y, nth_app (by rw [nth_eq]; exact hy2), ?_⟩
      conv => whnf
      simp only [nI_add]
      exact ⟨trivial, ih (j + 1) (by omega) (by omega)⟩
  refine Runs_from meth_J9_remove_2 (Nat.le_of_ble_eq_true rfl) (from_wp 400 meth_J9_remove_2 (selfcut 17) ?_)
  conv => whnf
  refine ⟨_, h1, _, rfl, _, rfl, ?_⟩
  conv => whnf
  refine ⟨_, h1, _, rfl, _, rfl, ?_⟩
  conv => whnf
  refine ⟨trivial, loop l.length 0 (by omega) (by omega)⟩
end AL5
