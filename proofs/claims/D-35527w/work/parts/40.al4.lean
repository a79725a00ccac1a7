/-! ArrayList: removal, clearing, copies -/
section AL4
variable {E : Ev} {g : Hp} {a d : Nat} {l : List Value} {o : Option Nat} {Q : Post} {X : XPost}
theorem fast_rm {l : List Value} {tl : List Value} {i : Nat} (hi : i < l.length) : (cpyL (l ++ tl) (i + 1) (l ++ tl) i (l.length - 1 - i)).set (l.length - 1) (.null : Value) = l.eraseIdx i ++ (.null :: tl) := by
  have hl : (l.eraseIdx i).length = l.length - 1 := by rw [List.length_eraseIdx]; simp [hi]
  have e1 : cpyL (l ++ tl) (i + 1) (l ++ tl) i (l.length - 1 - i) = l.eraseIdx i ++ (l ++ tl).drop (l.length - 1) := by
    have a1 : (l ++ tl).take i = l.take i := List.take_append_of_le_length (by omega)
    have a2 : ((l ++ tl).drop (i + 1)).take (l.length - 1 - i) = l.drop (i + 1) := by rw [List.drop_append_of_le_length (by omega), List.take_append_of_le_length (by rw [List.length_drop]; omega), List.take_of_length_le (by rw [List.length_drop]; omega)]
    have a3 : i + (l.length - 1 - i) = l.length - 1 := by omega
    unfold cpyL
    rw [a1, a2, a3, List.eraseIdx_eq_take_drop_succ]
  rw [e1, List.set_append_right _ _ (by omega), hl, Nat.sub_self]
  congr 1
  have : (l ++ tl).drop (l.length - 1) = (l.drop (l.length - 1)) ++ tl := List.drop_append_of_le_length (by omega)
  rw [this]
  cases hd : l.drop (l.length - 1) with
  | nil => have := congrArg List.length hd; simp at this; omega
  | cons x r =>
    have : r = [] := by have := congrArg List.length hd; simp at this; exact List.length_eq_zero_iff.mp (by omega)
    subst this
    rfl
theorem al_fastRemove {b i mc : Nat} {m0 : Int32} {tl : List Value} (h1 : g.2 a = some (28, [.int m0, .ref b, .int (nI l.length)], some a)) (h2 : g.2 b = some (105, l ++ tl, some a)) (h4 : (l ++ tl).length < 2 ^ 20) (hi : i < l.length) (hd : 2 ≤ d) (hQ : ∀ g', ALc g' a (l.eraseIdx i) (l ++ tl).length → Fr (fun w => w = a) 0 g g' → Q none g') : Runs E 306 [.ref a, .ref b, .int (nI i)] g d Q X := by
  rw [List.length_append] at h4
  have hl : (l.eraseIdx i).length = l.length - 1 := by rw [List.length_eraseIdx]; simp [hi]
  have fin2 : ∀ (m : Int32) (g' : Hp), g'.2 a = some (28, [.int m, .ref b, .int (nI (l.length - 1))], some a) → g'.2 b = some (105, l.eraseIdx i ++ (.null :: tl), some a) → Fr (fun w => w = a) 0 g g' → Q none g' := by
    intro m g' e1 e2 hF
    refine hQ g' ⟨m, b, .null :: tl, some a, by rw [hl]; exact e1, e2, Or.inl rfl, ?_, ?_⟩ hF
    · rw [hl, List.length_append, List.length_cons]; omega
    · rw [List.length_append]; omega
  have hF := Fr.refl (S := (fun w => w = a)) (n := 0) (g := g)
  refine Runs_from meth_J9_fastRemove (Nat.le_of_ble_eq_true rfl) (from_wp 400 meth_J9_fastRemove nocut ?_)
  conv => whnf
  refine ⟨_, h1, _, rfl, _, rfl, ?_⟩
  conv => whnf
  refine ⟨_, _, _, h1, rfl, _, rfl, by simp, trivial, fun g1 hp1 => ?_⟩
  conv => whnf
  have h2 := (hp1.2.2 _ (ne_tag h1 h2 rfl)).trans h2
  have hF := hF.trans (Fr.put (S := (fun w => w = a)) h1 hp1 (Or.inl rfl)) (fun w hw => Or.inl hw)
  have h1 := hp1.2.1
  dsimp only [List.set] at h1
  refine ⟨_, h1, _, rfl, _, rfl, ?_⟩
  conv => whnf
  simp only [cst, nI_sub (show 1 ≤ l.length by omega)]
  refine ⟨fun hh => ?_, fun hh => ?_⟩
  · rw [nI_leI (by omega) (by omega)] at hh
    conv => whnf
    refine ⟨_, _, _, h1, rfl, _, rfl, by simp, trivial, fun g2 hp2 => ?_⟩
    conv => whnf
    have h2 := (hp2.2.2 _ (ne_tag h1 h2 rfl)).trans h2
    have hF := hF.trans (Fr.put (S := (fun w => w = a)) h1 hp2 (Or.inl rfl)) (fun w hw => Or.inl hw)
    have h1 := hp2.2.1
    dsimp only [List.set] at h1
    refine ⟨_, _, _, h2, by omega, l.length - 1, rfl, by omega, by rw [List.length_append]; omega, fun g3 hp3 => ?_⟩
    conv => whnf
    have hF := hF.trans (Fr.put (S := fun w => w = a) h2 hp3 (Or.inl rfl)) (fun w hw => Or.inl hw)
    have h1 := (hp3.2.2 a (ne_tag h2 h1 rfl)).trans h1
    refine ⟨trivial, fin2 _ g3 h1 ?_ hF⟩
    rw [hp3.2.1]
    have : i = l.length - 1 := by omega
    have e9 := fast_rm (l := l) (tl := tl) hi
    rw [← this, Nat.sub_self] at e9
    rw [← this, ← e9]
    simp [cpyL]
  · rw [nI_leI (by omega) (by omega)] at hh
    conv => whnf
    simp only [cst, nI_sub (show i ≤ l.length - 1 by omega), nI_add]
    refine ⟨rfl, by omega, _, _, _, _, _, h2, h2, by omega, by omega, l.length - 1 - i, i, i + 1, rfl, rfl, rfl, by omega, by omega, by omega, by rw [List.length_append]; omega, by rw [List.length_append]; omega, fun g2 hp2 => ?_⟩
    conv => whnf
    have hF := hF.trans (Fr.put (S := fun w => w = a) h2 hp2 (Or.inl rfl)) (fun w hw => Or.inl hw)
    have h1 := (hp2.2.2 a (ne_tag h2 h1 rfl)).trans h1
    have h2 := hp2.2.1
    refine ⟨_, _, _, h1, rfl, _, rfl, by simp, trivial, fun g3 hp3 => ?_⟩
    conv => whnf
    have h2 := (hp3.2.2 _ (ne_tag h1 h2 rfl)).trans h2
    have hF := hF.trans (Fr.put (S := (fun w => w = a)) h1 hp3 (Or.inl rfl)) (fun w hw => Or.inl hw)
    have h1 := hp3.2.1
    dsimp only [List.set] at h1
    refine ⟨_, _, _, h2, by omega, l.length - 1, rfl, by omega, by simp [cpyL]; omega, fun g4 hp4 => ?_⟩
    conv => whnf
    have hF := hF.trans (Fr.put (S := fun w => w = a) h2 hp4 (Or.inl rfl)) (fun w hw => Or.inl hw)
    have h1 := (hp4.2.2 a (ne_tag h2 h1 rfl)).trans h1
    refine ⟨trivial, fin2 _ g4 h1 ?_ hF⟩
    rw [hp4.2.1, fast_rm hi]
theorem al_remove {cap i : Nat} {v : Value} (h : ALc g a l cap) (hv : l[i]? = some v) (hr : v = .null ∨ ∃ x, v = .ref x) (hd : 5 ≤ d) (hQ : ∀ g', ALc g' a (l.eraseIdx i) cap → Fr (fun w => w = a) 0 g g' → Q (some v) g') : Runs E 271 [.ref a, .int (nI i)] g d Q X := by
  obtain ⟨mc, b, tl, ob, h1, h2, h3, h4, h5⟩ := h
  have hi := (List.getElem?_eq_some_iff.mp hv).1
  have hob : ob = some a := h3.elim id fun h => by have h := h.2; rw [List.append_eq_nil_iff] at h; rw [h.1] at hi; simp at hi
  subst hob
  refine Runs_from meth_J9_remove (Nat.le_of_ble_eq_true rfl) (from_wp 400 meth_J9_remove nocut ?_)
  conv => whnf
  refine ⟨_, h1, _, rfl, _, rfl, ?_⟩
  conv => whnf
  refine ⟨rfl, by omega, ?_⟩
  refine Runs_from meth_J27_checkIndex (Nat.le_of_ble_eq_true rfl) (from_wp 400 meth_J27_checkIndex nocut ?_)
  conv => whnf
  refine ⟨rfl, by omega, pre_checkIndex (Or.inl rfl) hi (by omega) ?_⟩
  conv => whnf
  refine ⟨trivial, ?_⟩
  conv => whnf
  refine ⟨_, h1, _, rfl, _, rfl, ?_⟩
  conv => whnf
  have hn : nth (l ++ tl) i = some v := nth_app (by rw [nth_eq]; exact hv)
  refine ⟨_, h2, Nat.le_refl 105, i, rfl, by omega, v, hn, ?_⟩
  rcases hr with rfl | ⟨x, rfl⟩
  all_goals
    conv => whnf
    refine ⟨_, h1, _, rfl, rfl, by omega, al_fastRemove (mc := 0) h1 h2 (by rw [List.length_append]; omega) hi (by omega) fun g' q1 q2 => ?_⟩
    conv => whnf
    rw [List.length_append, h4] at q1
    exact ⟨trivial, hQ g' q1 q2⟩
/-- removal of an object that is there -/
theorem al_remove2 {cap i x : Nat} (h : ALc g a l cap) (hall : ∀ v ∈ l, ∃ y, v = .ref y) (hv : l[i]? = some (.ref x)) (hf : ∀ j, j < i → l[j]? ≠ some (.ref x)) (hx : ∃ c, g.2 x = some c ∧ sel 39 c.1 = some 283) (hd : 5 ≤ d) (hQ : ∀ g', ALc g' a (l.eraseIdx i) cap → Fr (fun w => w = a) 0 g g' → Q (some (.int (nI 1))) g') : Runs E 455 [.ref a, .ref x] g d Q X := by
  obtain ⟨mc, b, tl, ob, h1, h2, h3, h4, h5⟩ := h
  have hi := (List.getElem?_eq_some_iff.mp hv).1
  have hob : ob = some a := h3.elim id fun h => by have h := h.2; rw [List.append_eq_nil_iff] at h; rw [h.1] at hi; simp at hi
  subst hob
  obtain ⟨cx, hx1, hx2⟩ := hx
  have loop : ∀ n j, j ≤ i → i - j = n → From E 455 "java/util/ArrayList" false d Q X 39 [some (.inl (.ref a)), some (.inl (.ref x)), some (.inl (.ref b)), some (.inl (.int (nI l.length))), some (.inl (.int (nI j)))] [] g := by
    intro n
    induction n with
    | zero =>
      intro j hj hn
      have : j = i := by omega
      subst this
      refine from_wp 400 meth_J9_remove_2 (selfcut 39) ?_
      conv => whnf
      refine ⟨fun hh => absurd hh (by simp (disch := omega) only [cst, ne_eq, nI_add, nI_ltI, nI_leI, nI_eq]; omega), fun _ => ?_⟩
      conv => whnf
      refine ⟨_, h2, Nat.le_refl 105, j, rfl, by omega, .ref x, nth_app (by rw [nth_eq]; exact hv), ?_⟩
      conv => whnf
      refine ⟨_, hx1, _, hx2, rfl, by omega, ?_⟩
      refine Runs_from meth_J39_equals (Nat.le_of_ble_eq_true rfl) (from_wp 400 meth_J39_equals nocut ?_)
      conv => whnf
      refine ⟨fun _ => ?_, fun h => absurd rfl h⟩
      conv => whnf
      refine ⟨Or.inr rfl, ?_⟩
      conv => whnf
      refine ⟨fun hh => absurd hh (by decide +kernel), fun _ => ?_⟩
      conv => whnf
      refine ⟨_, h1, _, rfl, rfl, by omega, al_fastRemove (mc := 0) h1 h2 (by rw [List.length_append]; omega) hi (by omega) fun g' q1 q2 => ?_⟩
      conv => whnf
      rw [List.length_append, h4] at q1
      exact ⟨Or.inr rfl, hQ g' q1 q2⟩
    | succ n ih =>
      intro j hj hn
      have hjl : j < l.length := by omega
      obtain ⟨y, hy⟩ := hall l[j] (List.getElem_mem hjl)
      have hy2 : l[j]? = some (.ref y) := by rw [List.getElem?_eq_getElem hjl, hy]
      have hne : ¬ x = y := fun e => hf j (by omega) (by rw [hy2, e])
      refine from_wp 400 meth_J9_remove_2 (selfcut 39) ?_
      conv => whnf
      refine ⟨fun hh => absurd hh (by simp (disch := omega) only [cst, ne_eq, nI_add, nI_ltI, nI_leI, nI_eq]; omega), fun _ => ?_⟩
      conv => whnf
      refine ⟨_, h2, Nat.le_refl 105, j, rfl, by omega, .ref y, nth_app (by rw [nth_eq]; exact hy2), ?_⟩
      conv => whnf
      refine ⟨_, hx1, _, hx2, rfl, by omega, ?_⟩
      refine Runs_from meth_J39_equals (Nat.le_of_ble_eq_true rfl) (from_wp 400 meth_J39_equals nocut ?_)
      conv => whnf
      refine ⟨fun h => absurd h hne, fun _ => ?_⟩
      conv => whnf
      refine ⟨Or.inl rfl, ?_⟩
      conv => whnf
      refine ⟨fun _ => ?_, fun hh => absurd (by decide +kernel) hh⟩
      conv => whnf
      simp only [nI_add]
      exact ⟨trivial, ih (j + 1) (by omega) (by omega)⟩
  refine Runs_from meth_J9_remove_2 (Nat.le_of_ble_eq_true rfl) (from_wp 400 meth_J9_remove_2 (selfcut 39) ?_)
  conv => whnf
  refine ⟨_, h1, _, rfl, _, rfl, ?_⟩
  conv => whnf
  refine ⟨_, h1, _, rfl, _, rfl, ?_⟩
  conv => whnf
  refine ⟨trivial, loop i 0 (by omega) (by omega)⟩
theorem al_clear {cap : Nat} (h : ALc g a l cap) (hd : 2 ≤ d) (hQ : ∀ g', ALc g' a [] cap → Fr (fun w => w = a) 0 g g' → Q none g') : Runs E 490 [.ref a] g d Q X := by
  obtain ⟨mc, b, tl, ob, h1, h2, h3, h4, h5⟩ := h
  have loop : ∀ n k (g1 : Hp) (fs : List Value) (m1 : Int32), k ≤ l.length → l.length - k = n → fs.length = cap → g1.2 a = some (28, [.int m1, .ref b, .int (nI 0)], some a) → g1.2 b = some (105, fs, ob) → Fr (fun w => w = a) 0 g g1 → From E 490 "java/util/ArrayList" false d Q X 27 [some (.inl (.ref a)), some (.inl (.ref b)), some (.inl (.int (nI l.length))), some (.inl (.int (nI k)))] [] g1 := by
    intro n
    induction n with
    | zero =>
      intro k g1 fs m1 hk hn hfs e1 e2 hF
      have : k = l.length := by omega
      subst this
      refine from_wp 400 meth_J9_clear (selfcut 27) ?_
      conv => whnf
      refine ⟨fun _ => ?_, fun hh => absurd (by simp (disch := omega) only [cst, ne_eq, nI_add, nI_ltI, nI_leI, nI_eq]; omega) hh⟩
      conv => whnf
      refine ⟨trivial, hQ g1 ⟨m1, b, fs, ob, e1, e2, ?_, by rw [hfs]; exact Nat.zero_add _, h5⟩ hF⟩
      refine h3.imp id fun h => ⟨h.1, ?_⟩
      have h9 := congrArg List.length h.2
      rw [List.length_append] at h9
      rw [List.length_nil] at h9
      exact List.length_eq_zero_iff.mp (by rw [List.nil_append]; omega)
    | succ n ih =>
      intro k g1 fs m1 hk hn hfs e1 e2 hF
      have hob : ob = some a := h3.elim id fun h => by have h := h.2; rw [List.append_eq_nil_iff] at h; rw [h.1] at hn hk; simp at hn
      subst hob
      refine from_wp 400 meth_J9_clear (selfcut 27) ?_
      conv => whnf
      refine ⟨fun hh => absurd hh (by simp (disch := omega) only [cst, ne_eq, nI_add, nI_ltI, nI_leI, nI_eq]; omega), fun _ => ?_⟩
      conv => whnf
      refine ⟨_, _, _, e2, by omega, k, rfl, by omega, by omega, fun g2 hp2 => ?_⟩
      conv => whnf
      have hF := hF.trans (Fr.put (S := fun w => w = a) e2 hp2 (Or.inl rfl)) (fun w hw => Or.inl hw)
      have e1 := (hp2.2.2 a (ne_tag e2 e1 rfl)).trans e1
      simp only [nI_add]
      exact ⟨trivial, ih (k + 1) g2 _ m1 (by omega) (by omega) (by simpa using hfs) e1 hp2.2.1 hF⟩
  have hF := Fr.refl (S := (fun w => w = a)) (n := 0) (g := g)
  refine Runs_from meth_J9_clear (Nat.le_of_ble_eq_true rfl) (from_wp 400 meth_J9_clear (selfcut 27) ?_)
  conv => whnf
  refine ⟨_, h1, _, rfl, _, rfl, ?_⟩
  conv => whnf
  refine ⟨_, _, _, h1, rfl, _, rfl, by simp, trivial, fun g1 hp1 => ?_⟩
  conv => whnf
  have h2 := (hp1.2.2 _ (ne_tag h1 h2 rfl)).trans h2
  have hF := hF.trans (Fr.put (S := (fun w => w = a)) h1 hp1 (Or.inl rfl)) (fun w hw => Or.inl hw)
  have h1 := hp1.2.1
  dsimp only [List.set] at h1
  refine ⟨_, h1, _, rfl, _, rfl, ?_⟩
  conv => whnf
  refine ⟨_, h1, _, rfl, _, rfl, ?_⟩
  conv => whnf
  refine ⟨_, _, _, h1, rfl, _, rfl, by simp, trivial, fun g2 hp2 => ?_⟩
  conv => whnf
  have h2 := (hp2.2.2 _ (ne_tag h1 h2 rfl)).trans h2
  have hF := hF.trans (Fr.put (S := (fun w => w = a)) h1 hp2 (Or.inl rfl)) (fun w hw => Or.inl hw)
  have h1 := hp2.2.1
  dsimp only [List.set] at h1
  refine ⟨trivial, loop l.length 0 g2 _ _ (by omega) (by omega) (by rw [List.length_append]; exact h4) h1 h2 hF⟩
theorem al_toArray {w : Nat} (h : AL g a l o) (hd : 4 ≤ d) (hL : g.1 + 5 + l.length ≤ LIM) (hQ : ∀ g' b, New g g' b (105, l, some w) l.length → Q (some (.ref b)) g') : Runs E 297 [.ref a] g d Q X := by
  obtain ⟨mc, b, tl, ob, h1, h2, h3, h4⟩ := h
  rw [List.length_append] at h4
  refine Runs_from meth_J9_toArray (Nat.le_of_ble_eq_true rfl) (from_wp 400 meth_J9_toArray nocut ?_)
  conv => whnf
  refine ⟨_, h1, _, rfl, _, rfl, ?_⟩
  conv => whnf
  refine ⟨_, h1, _, rfl, _, rfl, ?_⟩
  conv => whnf
  refine ⟨rfl, by omega, ?_⟩
  refine Runs_from meth_J16_copyOf_2 (Nat.le_of_ble_eq_true rfl) (from_wp 400 meth_J16_copyOf_2 nocut ?_)
  conv => whnf
  refine ⟨rfl, by omega, _, _, h2, ?_⟩
  conv => whnf
  refine ⟨rfl, by omega, ?_⟩
  refine Runs_from meth_J16_copyOf_3 (Nat.le_of_ble_eq_true rfl) (from_wp 400 meth_J16_copyOf_3 nocut ?_)
  conv => whnf
  refine ⟨fun _ => ?_, fun hh => absurd rfl hh⟩
  conv => whnf
  refine ⟨l.length, rfl, by omega, hL, fun b' hb' => ⟨w, fun g1 hnew => ?_⟩⟩
  conv => whnf
  have h2' := (hnew.2.2.2 _ (ne_new hb' h2)).trans h2
  refine ⟨_, h2', Nat.le_of_ble_eq_true rfl, by first | omega | (dsimp only; omega) | (simp only [List.length_append]; omega) | (simp; omega) | simp, ?_⟩
  conv => whnf
  refine ⟨rfl, by omega, math_min (by show (l ++ tl).length < _; rw [List.length_append]; omega) (by omega) ?_⟩
  conv => whnf
  refine ⟨rfl, by omega, _, _, _, _, _, h2', hnew.2.2.1, by omega, by omega, l.length, 0, 0, congrArg nI (Nat.min_eq_right (by show _ ≤ (l ++ tl).length; rw [List.length_append]; omega)), rfl, rfl, by omega, by omega, by omega, by rw [List.length_append]; omega, by simp, fun g2 hput => ?_⟩
  conv => whnf
  refine ⟨trivial, ?_⟩
  conv => whnf
  refine ⟨trivial, ?_⟩
  conv => whnf
  have e9 : cpyL (l ++ tl) 0 (List.replicate l.length (.null : Value)) 0 l.length = l := by simp [cpyL]
  rw [e9] at hput
  exact ⟨trivial, hQ g2 b' (hnew.put hput)⟩
/-- a new list out of another -/
theorem al_init3 {x : Nat} {v : Value} {mc : Int32} (h : g.2 a = some (28, [.int mc, v, .int (nI 0)], some a)) (hx : AL g x l o) (hxa : x ≠ a) (hG : GL E g) (hd : 6 ≤ d) (hL : g.1 + 5 + l.length ≤ LIM) (hQ : ∀ g', ALc g' a l l.length → Fr (fun w => w = a) (5 + l.length) g g' → Q none g') : Runs E 219 [.ref a, .ref x] g d Q X := by
  obtain ⟨mx, b, tl, ob, x1, x2, x3, x4⟩ := hx
  have hE := hG.2.2.1
  have hl : l.length < 2 ^ 20 := by rw [List.length_append] at x4; omega
  have hF := Fr.refl (S := (fun w => w = a)) (n := 0) (g := g)
  refine Runs_from meth_J9_init_3 (Nat.le_of_ble_eq_true rfl) (from_wp 400 meth_J9_init_3 nocut ?_)
  conv => whnf
  refine ⟨⟨_, h, Nat.le_of_ble_eq_true rfl⟩, rfl, by omega, ?_⟩
  refine Runs_from meth_J1_init (Nat.le_of_ble_eq_true rfl) (from_wp 400 meth_J1_init nocut ?_)
  conv => whnf
  refine ⟨⟨_, h, Nat.le_of_ble_eq_true rfl⟩, rfl, by omega, ?_⟩
  refine Runs_from meth_J0_init (Nat.le_of_ble_eq_true rfl) (from_wp 400 meth_J0_init nocut ?_)
  conv => whnf
  refine ⟨rfl, by omega, ?_⟩
  conv => whnf
  refine ⟨trivial, ?_⟩
  conv => whnf
  refine ⟨_, _, _, h, rfl, _, rfl, by simp, trivial, fun g1 hp1 => ?_⟩
  conv => whnf
  have x1 := (hp1.2.2 _ hxa).trans x1
  have x2 := (hp1.2.2 _ (ne_tag h x2 rfl)).trans x2
  have hE := (hp1.2.2 _ (ne_tag h hE rfl)).trans hE
  have hF := hF.trans (Fr.put (S := (fun w => w = a)) h hp1 (Or.inl rfl)) (fun w hw => Or.inl hw)
  have h := hp1.2.1
  dsimp only [List.set] at h
  have hg1 : g1.1 = g.1 := hp1.1
  refine ⟨trivial, ?_⟩
  conv => whnf
  have hax : AL g1 x l o := ⟨mx, b, tl, ob, x1, x2, x3, x4⟩
  refine ⟨_, x1, _, rfl, rfl, by omega, al_toArray (w := a) hax (by omega) (by omega) fun g2 b2 hn2 => ?_⟩
  conv => whnf
  have hF := hF.trans (Fr.new (S := fun w => w = a) hn2) (fun w hw => Or.inl hw)
  have h := (hn2.2.2.2 _ (ne_new hn2.1 h)).trans h
  have x1 := (hn2.2.2.2 _ (ne_new hn2.1 x1)).trans x1
  have hE := (hn2.2.2.2 _ (ne_new hn2.1 hE)).trans hE
  have hb2 := hn2.2.2.1
  refine ⟨_, hb2, Nat.le_of_ble_eq_true rfl, by show l.length < _; omega, ?_⟩
  conv => whnf
  dsimp only
  refine ⟨_, _, _, h, rfl, _, rfl, by simp, trivial, fun g3 hp3 => ?_⟩
  conv => whnf
  have x1 := (hp3.2.2 _ hxa).trans x1
  have hb2 := (hp3.2.2 _ (ne_tag h hb2 rfl)).trans hb2
  have hE := (hp3.2.2 _ (ne_tag h hE rfl)).trans hE
  have hF := hF.trans (Fr.put (S := (fun w => w = a)) h hp3 (Or.inl rfl)) (fun w hw => Or.inl hw)
  have h := hp3.2.1
  dsimp only [List.set] at h
  refine ⟨fun hh => ?_, fun hh => ?_⟩
  · rw [nI_eq (by omega) (by omega)] at hh
    have hl0 : l = [] := List.length_eq_zero_iff.mp hh
    subst hl0
    conv => whnf
    refine ⟨_, _, _, h, rfl, _, rfl, by simp, trivial, fun g4 hp4 => ?_⟩
    conv => whnf
    have hE := (hp4.2.2 _ (ne_tag h hE rfl)).trans hE
    have hF := hF.trans (Fr.put (S := (fun w => w = a)) h hp4 (Or.inl rfl)) (fun w hw => Or.inl hw)
    have h := hp4.2.1
    dsimp only [List.set] at h
    exact ⟨trivial, hQ g4 ⟨_, _, [], none, h, hE, Or.inr ⟨rfl, rfl⟩, rfl, by omega⟩ (hF.weak (fun w hw => Or.inl hw) (by omega))⟩
  · conv => whnf
    refine ⟨rfl, by omega, _, _, x1, ?_⟩
    conv => whnf
    refine ⟨fun _ => ?_, fun h => absurd rfl h⟩
    conv => whnf
    refine ⟨_, _, _, h, rfl, _, rfl, by simp, trivial, fun g4 hp4 => ?_⟩
    conv => whnf
    have hb2 := (hp4.2.2 _ (ne_tag h hb2 rfl)).trans hb2
    have hF := hF.trans (Fr.put (S := (fun w => w = a)) h hp4 (Or.inl rfl)) (fun w hw => Or.inl hw)
    have h := hp4.2.1
    dsimp only [List.set] at h
    refine ⟨trivial, hQ g4 ⟨_, b2, [], some a, h, by rw [List.append_nil]; exact hb2, Or.inl rfl, rfl, hl⟩ (hF.weak (fun w hw => Or.inl hw) (by omega))⟩
theorem al_init3N {x y : Nat} {v vx : Value} {mc : Int32} (h : g.2 a = some (28, [.int mc, v, .int (nI 0)], some a)) (x1 : g.2 x = some (39, [.ref y, vx], none)) (x2 : g.2 y = some (105, [], none)) (hG : GL E g) (hd : 6 ≤ d) (hL : g.1 + 5 ≤ LIM) (hQ : ∀ g', ALc g' a [] 0 → Fr (fun w => w = a) 5 g g' → Q none g') : Runs E 219 [.ref a, .ref x] g d Q X := by
  have hE := hG.2.2.1
  have hF := Fr.refl (S := (fun w => w = a)) (n := 0) (g := g)
  refine Runs_from meth_J9_init_3 (Nat.le_of_ble_eq_true rfl) (from_wp 400 meth_J9_init_3 nocut ?_)
  conv => whnf
  refine ⟨⟨_, h, Nat.le_of_ble_eq_true rfl⟩, rfl, by omega, ?_⟩
  refine Runs_from meth_J1_init (Nat.le_of_ble_eq_true rfl) (from_wp 400 meth_J1_init nocut ?_)
  conv => whnf
  refine ⟨⟨_, h, Nat.le_of_ble_eq_true rfl⟩, rfl, by omega, ?_⟩
  refine Runs_from meth_J0_init (Nat.le_of_ble_eq_true rfl) (from_wp 400 meth_J0_init nocut ?_)
  conv => whnf
  refine ⟨rfl, by omega, ?_⟩
  conv => whnf
  refine ⟨trivial, ?_⟩
  conv => whnf
  refine ⟨_, _, _, h, rfl, _, rfl, by simp, trivial, fun g1 hp1 => ?_⟩
  conv => whnf
  have x1 := (hp1.2.2 _ (ne_tag h x1 rfl)).trans x1
  have x2 := (hp1.2.2 _ (ne_tag h x2 rfl)).trans x2
  have hE := (hp1.2.2 _ (ne_tag h hE rfl)).trans hE
  have hF := hF.trans (Fr.put (S := (fun w => w = a)) h hp1 (Or.inl rfl)) (fun w hw => Or.inl hw)
  have h := hp1.2.1
  dsimp only [List.set] at h
  have hg1 : g1.1 = g.1 := hp1.1
  refine ⟨trivial, ?_⟩
  conv => whnf
  refine ⟨_, x1, _, rfl, rfl, by omega, ?_⟩
  refine Runs_from meth_J40_toArray (Nat.le_of_ble_eq_true rfl) (from_wp 400 meth_J40_toArray nocut ?_)
  conv => whnf
  refine ⟨_, x1, _, rfl, _, rfl, ?_⟩
  conv => whnf
  refine ⟨_, x1, _, rfl, _, rfl, ?_⟩
  conv => whnf
  refine ⟨_, x2, Nat.le_of_ble_eq_true rfl, by first | omega | (dsimp only; omega) | (simp only [List.length_append]; omega) | (simp; omega) | simp, ?_⟩
  conv => whnf
  refine ⟨rfl, by omega, objs_copyOf (n := 0) (w := a) x2 (by simp) (by omega) (by omega) (by omega) fun b2 g2 hn2 => ?_⟩
  conv => whnf
  refine ⟨trivial, ?_⟩
  conv => whnf
  have hF := hF.trans (Fr.new (S := fun w => w = a) hn2) (fun w hw => Or.inl hw)
  have h := (hn2.2.2.2 _ (ne_new hn2.1 h)).trans h
  have hE := (hn2.2.2.2 _ (ne_new hn2.1 hE)).trans hE
  have hb2 : g2.2 b2 = some (105, [], some a) := hn2.2.2.1
  refine ⟨_, hb2, Nat.le_of_ble_eq_true rfl, by first | omega | (dsimp only; omega) | (simp only [List.length_append]; omega) | (simp; omega) | simp, ?_⟩
  conv => whnf
  refine ⟨_, _, _, h, rfl, _, rfl, by simp, trivial, fun g3 hp3 => ?_⟩
  conv => whnf
  have hE := (hp3.2.2 _ (ne_tag h hE rfl)).trans hE
  have hF := hF.trans (Fr.put (S := (fun w => w = a)) h hp3 (Or.inl rfl)) (fun w hw => Or.inl hw)
  have h := hp3.2.1
  dsimp only [List.set] at h
  refine ⟨fun _ => ?_, fun hh => absurd rfl hh⟩
  conv => whnf
  refine ⟨_, _, _, h, rfl, _, rfl, by simp, trivial, fun g4 hp4 => ?_⟩
  conv => whnf
  have hE := (hp4.2.2 _ (ne_tag h hE rfl)).trans hE
  have hF := hF.trans (Fr.put (S := (fun w => w = a)) h hp4 (Or.inl rfl)) (fun w hw => Or.inl hw)
  have h := hp4.2.1
  dsimp only [List.set] at h
  exact ⟨trivial, hQ g4 ⟨_, _, [], none, h, hE, Or.inr ⟨rfl, rfl⟩, rfl, by omega⟩ (hF.weak (fun w hw => Or.inl hw) (by omega))⟩
end AL4
