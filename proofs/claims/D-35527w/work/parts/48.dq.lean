/-! java.util.ArrayDeque, used as a stack at its head -/
def DQ (g : Hp) (a : Nat) (l : List Value) (cap : Nat) : Prop := ∃ b, g.2 a = some (33, [.ref b, .int (nI (if l = [] then 0 else cap - l.length)), .int (nI 0)], some a) ∧ g.2 b = some (105, List.replicate (cap - l.length) .null ++ l, some a) ∧ l.length < cap ∧ 17 ≤ cap ∧ cap < 2 ^ 17
section DQS
variable {E : Ev} {g : Hp} {a b d : Nat} {l : List Value} {Q : Post} {X : XPost}
theorem dq_init (h : g.2 a = some (33, [.null, .int (nI 0), .int (nI 0)], some a)) (hd : 2 ≤ d) (hL : g.1 + 22 ≤ LIM) (hQ : ∀ g', DQ g' a [] 17 → Fr (fun w => w = a) 22 g g' → Q none g') : Runs E 214 [.ref a] g d Q X := by
  have hF := Fr.refl (S := (fun w => w = a)) (n := 0) (g := g)
  refine Runs_from meth_J22_init (Nat.le_of_ble_eq_true rfl) (from_wp 400 meth_J22_init nocut ?_)
  conv => whnf
  refine ⟨⟨_, h, Nat.le_of_ble_eq_true rfl⟩, rfl, by omega, ?_⟩
  refine Runs_from meth_J0_init (Nat.le_of_ble_eq_true rfl) (from_wp 400 meth_J0_init nocut ?_)
  conv => whnf
  refine ⟨rfl, by omega, ?_⟩
  conv => whnf
  refine ⟨trivial, ?_⟩
  conv => whnf
  refine ⟨17, rfl, by omega, by omega, fun w hw => ⟨a, fun g3 hn3 => ?_⟩⟩
  conv => whnf
  have hF := hF.trans (Fr.new (S := fun w => w = a) hn3) (fun w hw => Or.inl hw)
  have h := (hn3.2.2.2 _ (ne_new hw h)).trans h
  have hw3 : g3.2 w = some (105, List.replicate 17 .null, some a) := hn3.2.2.1
  refine ⟨_, _, _, h, rfl, _, rfl, by simp, trivial, fun g4 hp4 => ?_⟩
  conv => whnf
  have hw3 := (hp4.2.2 _ (ne_tag h hw3 rfl)).trans hw3
  have hF := hF.trans (Fr.put (S := (fun w => w = a)) h hp4 (Or.inl rfl)) (fun w hw => Or.inl hw)
  have h := hp4.2.1
  dsimp only [List.set] at h
  exact ⟨trivial, hQ g4 ⟨w, h, by simpa using hw3, by simp, by omega⟩ (hF.weak (fun w hw => Or.inl hw) (by omega))⟩
theorem repl_set {k n : Nat} {x : Value} {l : List Value} (h : n = k + 1) : (List.replicate n (.null : Value) ++ l).set k x = List.replicate k (.null : Value) ++ x :: l := by
  subst h
  rw [List.replicate_succ', List.append_assoc, List.set_append_right _ _ (by simp), List.length_replicate, Nat.sub_self]
  rfl
theorem dq_remove {x cap : Nat} (h : DQ g a (.ref x :: l) cap) (hd : 4 ≤ d) (hQ : ∀ g', DQ g' a l cap → Fr (fun w => w = a) 0 g g' → Q (some (.ref x)) g') : Runs E 463 [.ref a] g d Q X := by
  obtain ⟨b, h1, h2, h3, h4⟩ := h
  rw [if_neg (by simp)] at h1
  simp only [List.length_cons] at h1 h2 h3
  have hk : (List.replicate (cap - (l.length + 1)) (.null : Value) ++ .ref x :: l).length = cap := by simp; omega
  have hn : nth (List.replicate (cap - (l.length + 1)) (.null : Value) ++ .ref x :: l) (cap - (l.length + 1)) = some (.ref x) := by
    rw [nth_eq, List.getElem?_append_right (by simp)]
    simp
  have hset : (List.replicate (cap - (l.length + 1)) (.null : Value) ++ .ref x :: l).set (cap - (l.length + 1)) .null = List.replicate (cap - l.length) (.null : Value) ++ l := by
    rw [List.set_append_right _ _ (by simp)]
    have : cap - l.length = (cap - (l.length + 1)) + 1 := by omega
    rw [this, List.replicate_succ', List.append_assoc]
    simp
  have hF := Fr.refl (S := (fun w => w = a)) (n := 0) (g := g)
  refine Runs_from meth_J22_removeFirst (Nat.le_of_ble_eq_true rfl) (from_wp 400 meth_J22_removeFirst nocut ?_)
  conv => whnf
  refine ⟨_, h1, _, rfl, rfl, by omega, ?_⟩
  refine Runs_from meth_J22_pollFirst (Nat.le_of_ble_eq_true rfl) (from_wp 400 meth_J22_pollFirst nocut ?_)
  conv => whnf
  refine ⟨_, h1, _, rfl, _, rfl, ?_⟩
  conv => whnf
  refine ⟨_, h1, _, rfl, _, rfl, ?_⟩
  conv => whnf
  refine ⟨rfl, by omega, ?_⟩
  refine Runs_from meth_J22_elementAt (Nat.le_of_ble_eq_true rfl) (from_wp 400 meth_J22_elementAt nocut ?_)
  conv => whnf
  refine ⟨_, h2, Nat.le_refl 105, cap - (l.length + 1), rfl, by omega, _, hn, ?_⟩
  conv => whnf
  refine ⟨trivial, ?_⟩
  conv => whnf
  refine ⟨_, _, _, h2, by omega, cap - (l.length + 1), rfl, by omega, by omega, fun g2 hp2 => ?_⟩
  conv => whnf
  rw [hset] at hp2
  have hF := hF.trans (Fr.put (S := fun w => w = a) h2 hp2 (Or.inl rfl)) (fun w hw => Or.inl hw)
  have h1 := (hp2.2.2 _ (ne_tag h2 h1 rfl)).trans h1
  have h2 := hp2.2.1
  have hk2 : (List.replicate (cap - l.length) (.null : Value) ++ l).length = cap := by simp; omega
  refine ⟨_, h2, Nat.le_of_ble_eq_true rfl, by first | omega | (dsimp only; omega) | (simp only [List.length_append]; omega) | (simp; omega) | simp, ?_⟩
  conv => whnf
  dsimp only
  rw [hk2]
  refine ⟨rfl, by omega, ?_⟩
  refine Runs_from meth_J22_inc (Nat.le_of_ble_eq_true rfl) (from_wp 400 meth_J22_inc nocut ?_)
  conv => whnf
  simp only [cst, nI_add]
  have hhead : ∀ g3 : Hp, Put g2 g3 a (33, [.ref b, .int (nI (if l = [] then 0 else cap - l.length)), .int (nI 0)], some a) → Q (some (.ref x)) g3 := by
    intro g3 hp3
    exact hQ g3 ⟨b, hp3.2.1, (hp3.2.2 _ (ne_tag h1 h2 rfl)).trans h2, by omega, h4⟩ (hF.trans (Fr.put (S := fun w => w = a) h1 hp3 (Or.inl rfl)) fun w hw => Or.inl hw)
  by_cases hl : l = []
  · subst hl
    rw [if_pos rfl] at hhead
    simp only [List.length_nil] at *
    refine ⟨fun hh => absurd hh (by simp (disch := omega) only [cst, ne_eq, nI_add, nI_ltI, nI_leI, nI_eq]; omega), fun _ => ?_⟩
    conv => whnf
    refine ⟨trivial, ?_⟩
    conv => whnf
    refine ⟨_, _, _, h1, rfl, _, rfl, by simp, trivial, fun g3 hp3 => ?_⟩
    conv => whnf
    refine ⟨trivial, ?_⟩
    conv => whnf
    exact ⟨trivial, hhead g3 hp3⟩
  · rw [if_neg hl] at hhead
    have hl0 : 0 < l.length := List.length_pos_iff.mpr hl
    have e : cap - (l.length + 1) + 1 = cap - l.length := by omega
    rw [e]
    refine ⟨fun _ => ?_, fun hh => absurd (by simp (disch := omega) only [cst, ne_eq, nI_add, nI_ltI, nI_leI, nI_eq]; omega) hh⟩
    conv => whnf
    refine ⟨trivial, ?_⟩
    conv => whnf
    refine ⟨_, _, _, h1, rfl, _, rfl, by simp, trivial, fun g3 hp3 => ?_⟩
    conv => whnf
    refine ⟨trivial, ?_⟩
    conv => whnf
    exact ⟨trivial, hhead g3 hp3⟩
/-- a new array of what is in it -/
theorem dq_toArray {w cap : Nat} (h : DQ g a l cap) (hd : 5 ≤ d) (hL : g.1 + 5 + l.length ≤ LIM) (hQ : ∀ g' b, New g g' b (105, l, some w) l.length → Q (some (.ref b)) g') : Runs E 299 [.ref a] g d Q X := by
  obtain ⟨b, h1, h2, h3, h4⟩ := h
  have hk : (List.replicate (cap - l.length) (.null : Value) ++ l).length = cap := by simp; omega
  have cor : ∀ (hd0 n : Nat) (Q' : Post) (X' : XPost), hd0 + n ≤ cap → n = l.length → ((List.replicate (cap - l.length) (.null : Value) ++ l).drop hd0).take n = l → (∀ g' b', New g g' b' (105, l, some w) l.length → Q' (some (.ref b')) g') → Runs E 54 [.ref b, .int (nI hd0), .int (nI (hd0 + n)), .ref (la E 1000)] g (d - 1 - 1) Q' X' := by
    intro hd0 n Q' X' hc hn hl hQ'
    refine Runs_from meth_J16_copyOfRange_2 (Nat.le_of_ble_eq_true rfl) (from_wp 400 meth_J16_copyOfRange_2 nocut ?_)
    conv => whnf
    simp only [nI_sub (Nat.le_add_right hd0 n), Nat.add_sub_cancel_left]
    refine ⟨fun _ => ?_, fun hh => absurd (by simp (disch := omega) only [cst, ne_eq, nI_add, nI_ltI, nI_leI, nI_eq]; omega) hh⟩
    conv => whnf
    refine ⟨fun _ => ?_, fun hh => absurd rfl hh⟩
    conv => whnf
    refine ⟨n, rfl, by omega, by omega, fun b' hb' => ⟨w, fun g1 hnew => ?_⟩⟩
    conv => whnf
    have h2' := (hnew.2.2.2 _ (ne_new hb' h2)).trans h2
    refine ⟨_, h2', Nat.le_of_ble_eq_true rfl, by first | omega | (dsimp only; omega) | (simp only [List.length_append]; omega) | (simp; omega) | simp, ?_⟩
    conv => whnf
    dsimp only
    rw [hk, nI_sub (show hd0 ≤ cap by omega)]
    refine ⟨rfl, by omega, math_min (by omega) (by omega) ?_⟩
    conv => whnf
    rw [Nat.min_eq_right (by omega)]
    refine ⟨rfl, by omega, _, _, _, _, _, h2', hnew.2.2.1, by omega, by omega, n, 0, hd0, rfl, rfl, rfl, by omega, by omega, by omega, by omega, by simp, fun g2 hput => ?_⟩
    conv => whnf
    have e9 : cpyL (List.replicate (cap - l.length) (.null : Value) ++ l) hd0 (List.replicate n (.null : Value)) 0 n = l := by
      unfold cpyL
      rw [List.take_zero, List.nil_append, hl, List.drop_eq_nil_of_le (by simp)]
      simp
    rw [e9] at hput
    subst hn
    exact ⟨trivial, hQ' g2 b' (hnew.put hput)⟩
  refine Runs_from meth_J22_toArray (Nat.le_of_ble_eq_true rfl) (from_wp 400 meth_J22_toArray nocut ?_)
  conv => whnf
  refine ⟨_, h1, _, rfl, rfl, by omega, ?_⟩
  refine Runs_from meth_J22_toArray_2 (Nat.le_of_ble_eq_true rfl) (from_wp 400 meth_J22_toArray_2 nocut ?_)
  conv => whnf
  refine ⟨_, h1, _, rfl, _, rfl, ?_⟩
  conv => whnf
  refine ⟨_, h1, _, rfl, _, rfl, ?_⟩
  conv => whnf
  refine ⟨_, h1, _, rfl, _, rfl, ?_⟩
  conv => whnf
  by_cases hl : l = []
  · subst hl
    rw [if_pos rfl] at h1 ⊢
    refine ⟨fun hh => absurd hh (by decide +kernel), fun _ => ?_⟩
    conv => whnf
    have e0 : nI 0 + cst [0] = nI (0 + 0) := by decide +kernel
    rw [e0]
    refine ⟨fun hh => absurd hh (by decide +kernel), fun _ => ?_⟩
    conv => whnf
    refine ⟨rfl, by omega, cor 0 0 _ _ (by omega) rfl (by simp) fun g' b' q => ?_⟩
    conv => whnf
    refine ⟨fun _ => ?_, fun hh => absurd (by decide +kernel) hh⟩
    conv => whnf
    refine ⟨trivial, ?_⟩
    conv => whnf
    exact ⟨trivial, hQ g' b' q⟩
  · rw [if_neg hl] at h1 ⊢
    have hl0 : 0 < l.length := List.length_pos_iff.mpr hl
    refine ⟨fun _ => ?_, fun hh => absurd (by rw [nI_ltI (by omega) (by omega)]; omega) hh⟩
    conv => whnf
    refine ⟨_, h2, Nat.le_of_ble_eq_true rfl, by first | omega | (dsimp only; omega) | (simp only [List.length_append]; omega) | (simp; omega) | simp, ?_⟩
    conv => whnf
    dsimp only
    rw [hk, nI_add, Nat.zero_add]
    refine ⟨fun hh => absurd hh (by simp (disch := omega) only [cst, ne_eq, nI_add, nI_ltI, nI_leI, nI_eq]; omega), fun _ => ?_⟩
    conv => whnf
    have ec : cap = (cap - l.length) + l.length := by omega
    have cor2 := fun Q' X' hq => cor (cap - l.length) l.length Q' X' (by omega) rfl (by rw [List.drop_append_of_le_length (by simp)]; simp) hq
    rw [← ec] at cor2
    refine ⟨rfl, by omega, cor2 _ _ fun g' b' q => ?_⟩
    conv => whnf
    refine ⟨fun hh => absurd hh (by rw [nI_eq (by omega) (by omega)]; omega), fun _ => ?_⟩
    conv => whnf
    have h2' := (q.2.2.2 _ (ne_new q.1 h2)).trans h2
    refine ⟨_, h2', Nat.le_of_ble_eq_true rfl, by first | omega | (dsimp only; omega) | (simp only [List.length_append]; omega) | (simp; omega) | simp, ?_⟩
    conv => whnf
    dsimp only
    rw [hk, nI_sub (show cap - l.length ≤ cap by omega)]
    refine ⟨rfl, by omega, _, _, _, _, _, h2', q.2.2.1, by omega, by omega, 0, cap - (cap - l.length), 0, rfl, rfl, rfl, by omega, by omega, by omega, by omega, by omega, fun g2 hput => ?_⟩
    conv => whnf
    refine ⟨trivial, ?_⟩
    conv => whnf
    refine ⟨trivial, hQ g2 b' (q.put ?_)⟩
    have e9 : cpyL (List.replicate (cap - l.length) (.null : Value) ++ l) 0 l (cap - (cap - l.length)) 0 = l := by
      unfold cpyL
      have : cap - (cap - l.length) = l.length := by omega
      rw [this]
      simp
    rw [e9] at hput
    exact hput
theorem dq_growL {T m : List Value} {i : Nat} (hi : i < T.length) : (List.replicate i (.null : Value) ++ (T.drop i ++ m)).set i .null = List.replicate (i + 1) (.null : Value) ++ (T.drop (i + 1) ++ m) := by
  have e : T.drop i = T[i] :: T.drop (i + 1) := List.drop_eq_getElem_cons hi
  rw [e, List.set_append_right _ _ (by simp), List.length_replicate, Nat.sub_self, List.replicate_succ', List.append_assoc]
  rfl
theorem dq_max {n : Nat} (h : n < 2 ^ 20) : nI n - nI 2147483639 ≤ nI 0 := by
  rw [Int32.le_iff_toInt_le, Int32.toInt_sub, nI_toInt (by omega), nI_toInt (by omega), nI_toInt (by omega), Int.bmod_def]
  omega
theorem dq_grow {m : List Value} {cap x : Nat} {m' : List Value} (hm : m = .ref x :: m') (h1 : g.2 a = some (33, [.ref b, .int (nI 0), .int (nI 0)], some a)) (h2 : g.2 b = some (105, m, some a)) (hl : m.length = cap) (hc1 : 17 ≤ cap) (hc2 : cap < 2 ^ 15) (hd : 4 ≤ d) (hL : g.1 + 7 + 2 * cap ≤ LIM) (hQ : ∀ g' cap', DQ g' a m cap' → cap' ≤ 2 * cap + 2 → Fr (fun w => w = a) (5 + cap') g g' → Q none g') : Runs E 517 [.ref a, .int (nI 1)] g d Q X := by
  have body : ∀ j, 1 ≤ j → j ≤ cap + 2 → ∀ (Q' : Post) (X' : XPost), (∀ g' cap', DQ g' a m cap' → cap' ≤ 2 * cap + 2 → Fr (fun w => w = a) (5 + cap') g g' → Q' none g') → From E 517 "java/util/ArrayDeque" false d Q' X' 49 [some (.inl (.ref a)), some (.inl (.int (nI 1))), some (.inl (.int (nI cap))), some (.inl (.int (nI (cap + j)))), some (.inl (.int (nI j))), none, none, none, none] [] g := by
    intro j hj1 hj2 Q' X' hQ'
    have fin : ∀ (g2 : Hp) (b' : Nat), g2.2 a = some (33, [.ref b', .int (nI j), .int (nI 0)], some a) → g2.2 b' = some (105, List.replicate j .null ++ m, some a) → Fr (fun w => w = a) (5 + (cap + j)) g g2 → Q' none g2 := by
      intro g2 b' e1 e2 hF
      have hj : cap + j - m.length = j := by omega
      have hm0 : ¬ m = [] := by rw [hm]; simp
      exact hQ' g2 (cap + j) ⟨b', by rw [if_neg hm0, hj]; exact e1, by rw [hj]; exact e2, by omega, by omega, by omega⟩ (by omega) hF
    have loop : ∀ n i (g2 : Hp) (b' : Nat) (T : List Value), T.length = j → i ≤ j → j - i = n → g2.2 a = some (33, [.ref b', .int (nI j), .int (nI 0)], some a) → g2.2 b' = some (105, List.replicate i .null ++ (T.drop i ++ m), some a) → Fr (fun w => w = a) (5 + (cap + j)) g g2 → From E 517 "java/util/ArrayDeque" false d Q' X' 145 [some (.inl (.ref a)), some (.inl (.int (nI 1))), some (.inl (.int (nI cap))), some (.inl (.int (nI (cap + j)))), some (.inl (.int (nI j))), some (.inl (.ref b')), some (.inl (.int (nI j))), some (.inl (.int (nI i))), some (.inl (.int (nI j)))] [] g2 := by
      intro n
      induction n with
      | zero =>
        intro i g2 b' T hT hi hn e1 e2 hF
        have : i = j := by omega
        subst this
        refine from_wp 400 meth_J22_grow (selfcut 145) ?_
        conv => whnf
        refine ⟨fun _ => ?_, fun hh => absurd (by simp (disch := omega) only [cst, ne_eq, nI_add, nI_ltI, nI_leI, nI_eq]; omega) hh⟩
        conv => whnf
        rw [List.drop_eq_nil_of_le (by omega), List.nil_append] at e2
        exact ⟨trivial, fin g2 b' e1 e2 hF⟩
      | succ n ih =>
        intro i g2 b' T hT hi hn e1 e2 hF
        refine from_wp 400 meth_J22_grow (selfcut 145) ?_
        conv => whnf
        refine ⟨fun hh => absurd hh (by simp (disch := omega) only [cst, ne_eq, nI_add, nI_ltI, nI_leI, nI_eq]; omega), fun _ => ?_⟩
        conv => whnf
        refine ⟨_, _, _, e2, by omega, i, rfl, by omega, by rw [List.length_append, List.length_append, List.length_replicate, List.length_drop]; omega, fun g3 hp3 => ?_⟩
        conv => whnf
        rw [dq_growL (by omega)] at hp3
        simp only [nI_add]
        exact ⟨trivial, ih (i + 1) g3 b' T hT (by omega) (by omega) ((hp3.2.2 _ (ne_tag e2 e1 rfl)).trans e1) hp3.2.1 ((hF.trans (Fr.put (S := fun w => w = a) e2 hp3 (Or.inl rfl)) fun w hw => Or.inl hw).weak (fun w hw => Or.inl hw) (by omega))⟩
    refine from_wp 400 meth_J22_grow (selfcut 145) ?_
    conv => whnf
    refine ⟨_, h1, _, rfl, _, rfl, ?_⟩
    conv => whnf
    refine ⟨rfl, by omega, objs_copyOf (n := cap + j) (w := a) h2 (by omega) (by omega) (by omega) (by omega) fun b' g1 hn1 => ?_⟩
    conv => whnf
    have hF : Fr (fun w => w = a) (5 + (cap + j)) g g1 := Fr.new hn1
    have e1 := (hn1.2.2.2 _ (ne_new hn1.1 h1)).trans h1
    have e2 := hn1.2.2.1
    rw [hl, Nat.add_sub_cancel_left] at e2
    refine ⟨_, _, _, e1, rfl, _, rfl, by simp, trivial, fun g2 hp2 => ?_⟩
    conv => whnf
    have hF := hF.trans (Fr.put (S := fun w => w = a) e1 hp2 (Or.inl rfl)) (fun w hw => Or.inl hw)
    have e2 := (hp2.2.2 _ (ne_tag e1 e2 rfl)).trans e2
    have e1 : g2.2 a = some (33, [.ref b', .int (nI 0), .int (nI 0)], some a) := hp2.2.1
    refine ⟨_, e1, _, rfl, _, rfl, ?_⟩
    conv => whnf
    refine ⟨_, e1, _, rfl, _, rfl, ?_⟩
    conv => whnf
    refine ⟨fun hh => absurd hh (by decide +kernel), fun _ => ?_⟩
    conv => whnf
    refine ⟨_, e1, _, rfl, _, rfl, ?_⟩
    conv => whnf
    refine ⟨_, e1, _, rfl, _, rfl, ?_⟩
    conv => whnf
    refine ⟨fun hh => absurd hh (by decide +kernel), fun _ => ?_⟩
    conv => whnf
    refine ⟨_, e1, _, rfl, _, rfl, ?_⟩
    conv => whnf
    refine ⟨_, e2, Nat.le_refl 105, 0, rfl, by omega, .ref x, by rw [hm]; rfl, ?_⟩
    conv => whnf
    simp only [nI_sub (Nat.le_add_right cap j), Nat.add_sub_cancel_left]
    refine ⟨_, e1, _, rfl, _, rfl, ?_⟩
    conv => whnf
    refine ⟨_, e1, _, rfl, _, rfl, ?_⟩
    conv => whnf
    refine ⟨_, e1, _, rfl, _, rfl, ?_⟩
    conv => whnf
    have eh : nI 0 + nI j = nI j := by rw [nI_add, Nat.zero_add]
    have eh2 : nI cap - nI 0 = nI cap := by rw [nI_sub (Nat.zero_le _), Nat.sub_zero]
    rw [eh2, eh]
    refine ⟨rfl, by omega, _, _, _, _, _, e2, e2, by omega, by omega, cap, j, 0, rfl, rfl, rfl, by omega, by omega, by omega, by rw [List.length_append, List.length_replicate]; omega, by rw [List.length_append, List.length_replicate]; omega, fun g3 hp3 => ?_⟩
    conv => whnf
    have hF := hF.trans (Fr.put (S := fun w => w = a) e2 hp3 (Or.inl rfl)) (fun w hw => Or.inl hw)
    have e1 := (hp3.2.2 _ (ne_tag e2 e1 rfl)).trans e1
    have e2 := hp3.2.1
    have e9 : cpyL (m ++ List.replicate j (.null : Value)) 0 (m ++ List.replicate j (.null : Value)) j cap = (m ++ List.replicate j (.null : Value)).take j ++ m := by
      unfold cpyL
      rw [List.drop_zero, ← hl, List.take_left, List.drop_eq_nil_of_le (by rw [List.length_append, List.length_replicate]; omega), List.append_nil]
    rw [e9] at e2
    refine ⟨_, e1, _, rfl, _, rfl, ?_⟩
    conv => whnf
    refine ⟨_, e1, _, rfl, _, rfl, ?_⟩
    conv => whnf
    rw [eh]
    refine ⟨_, _, _, e1, rfl, _, rfl, by simp, trivial, fun g4 hp4 => ?_⟩
    conv => whnf
    have hF := hF.trans (Fr.put (S := fun w => w = a) e1 hp4 (Or.inl rfl)) (fun w hw => Or.inl hw)
    have e2 := (hp4.2.2 _ (ne_tag e1 e2 rfl)).trans e2
    have e1 : g4.2 a = some (33, [.ref b', .int (nI j), .int (nI 0)], some a) := hp4.2.1
    have hF9 : Fr (fun w => w = a) (5 + (cap + j)) g g4 := hF.weak (fun w hw => Or.inl hw) (by omega)
    exact ⟨trivial, loop j 0 g4 b' ((m ++ List.replicate j (.null : Value)).take j) (by rw [List.length_take, List.length_append, List.length_replicate]; omega) (by omega) (by omega) e1 (by simpa using e2) hF9⟩
  refine Runs_from meth_J22_grow (Nat.le_of_ble_eq_true rfl) (from_wp 400 meth_J22_grow (selfcut 49) ?_)
  conv => whnf
  refine ⟨_, h1, _, rfl, _, rfl, ?_⟩
  conv => whnf
  refine ⟨_, h2, Nat.le_of_ble_eq_true rfl, by first | omega | (dsimp only; omega) | (simp only [List.length_append]; omega) | (simp; omega) | simp, ?_⟩
  conv => whnf
  dsimp only
  rw [hl]
  refine ⟨fun hh => ?_, fun hh => ?_⟩
  · have hh : 64 ≤ cap := (nI_leI (by omega) (by omega)).mp hh
    conv => whnf
    simp only [cst, shr1 (show cap < 2 ^ 25 by omega), nI_add]
    refine ⟨fun hh => absurd hh (by rw [nI_ltI (by omega) (by omega)]; omega), fun _ => ?_⟩
    conv => whnf
    simp only [cst, shr1 (show cap < 2 ^ 25 by omega), nI_add]
    refine ⟨fun _ => ?_, fun hh => absurd (dq_max (by omega)) hh⟩
    conv => whnf
    exact ⟨trivial, body (cap / 2) (by omega) (by omega) _ _ hQ⟩
  · have hh : ¬ 64 ≤ cap := fun e => hh ((nI_leI (by omega) (by omega)).mpr e)
    conv => whnf
    simp only [cst, nI_add]
    refine ⟨fun hh => absurd hh (by rw [nI_ltI (by omega) (by omega)]; omega), fun _ => ?_⟩
    conv => whnf
    simp only [cst, nI_add]
    refine ⟨fun _ => ?_, fun hh => absurd (dq_max (by omega)) hh⟩
    conv => whnf
    exact ⟨trivial, body (cap + 2) (by omega) (by omega) _ _ hQ⟩
theorem dq_add {cap x : Nat} {cx : Cel} (h : DQ g a l cap) (hx : g.2 x = some cx) (hax : asgT cx.1 105 = true) (hc2 : cap < 2 ^ 15) (hd : 6 ≤ d) (hL : l.length + 1 = cap → g.1 + 7 + 2 * cap ≤ LIM) (hQ : ∀ g' cap', DQ g' a (.ref x :: l) cap' → (l.length + 1 < cap → cap' = cap) → cap' ≤ 2 * cap + 2 → Fr (fun w => w = a) (if l.length + 1 < cap then 0 else 5 + cap') g g' → Q none g') : Runs E 462 [.ref a, .ref x] g d Q X := by
  obtain ⟨b, h1, h2, h3, h4⟩ := h
  have hk : (List.replicate (cap - l.length) (.null : Value) ++ l).length = cap := by simp; omega
  have hk2 : (List.replicate (cap - (l.length + 1)) (.null : Value) ++ .ref x :: l).length = cap := by simp; omega
  have hset : (List.replicate (cap - l.length) (.null : Value) ++ l).set (cap - (l.length + 1)) (.ref x) = List.replicate (cap - (l.length + 1)) (.null : Value) ++ .ref x :: l := repl_set (by omega)
  have rest : ∀ g1 : Hp, g1.2 a = some (33, [.ref b, .int (nI (cap - (l.length + 1))), .int (nI 0)], some a) → g1.2 b = some (105, List.replicate (cap - l.length) .null ++ l, some a) → Fr (fun w => w = a) 0 g g1 → From E 462 "java/util/ArrayDeque" false d Q X 32 [some (.inl (.ref a)), some (.inl (.ref x)), some (.inl (.ref b))] [.int (nI (cap - (l.length + 1))), .ref b] g1 := by
    intro g1 e1 e2 hF
    obtain ⟨c', hc', hcc⟩ := hF.2.1 x cx hx
    refine from_wp 400 meth_J22_addFirst nocut ?_
    conv => whnf
    refine ⟨_, _, _, e2, by omega, ⟨c', hc', by rw [hcc]; exact hax⟩, cap - (l.length + 1), rfl, by omega, by omega, fun g2 hp2 => ?_⟩
    conv => whnf
    rw [hset] at hp2
    have hF := hF.trans (Fr.put (S := fun w => w = a) e2 hp2 (Or.inl rfl)) (fun w hw => Or.inl hw)
    have e1 := (hp2.2.2 _ (ne_tag e2 e1 rfl)).trans e1
    have e2 := hp2.2.1
    refine ⟨_, e1, _, rfl, _, rfl, ?_⟩
    conv => whnf
    refine ⟨_, e1, _, rfl, _, rfl, ?_⟩
    conv => whnf
    by_cases hh : l.length + 1 < cap
    · refine ⟨fun _ => ?_, fun hh => absurd (by rw [ne_eq, nI_eq (by omega) (by omega)]; omega) hh⟩
      conv => whnf
      refine ⟨trivial, hQ g2 cap ⟨b, ?_, e2, by simpa using hh, h4⟩ (fun _ => rfl) (by omega) (by rw [if_pos hh]; exact hF)⟩
      rw [if_neg (by simp)]
      exact e1
    · have hz : cap - (l.length + 1) = 0 := by omega
      rw [hz] at e1 e2 ⊢
      have hlen : (.ref x :: l : List Value).length = cap := by simp; omega
      have hg2 := hF.2.2
      have hL := hL (by omega)
      refine ⟨fun hh => absurd hh (by decide +kernel), fun _ => ?_⟩
      conv => whnf
      refine ⟨_, e1, _, rfl, rfl, by omega, dq_grow rfl e1 e2 hlen h4.1 hc2 (by omega) (by omega) fun g3 cap' q1 q2 q3 => ?_⟩
      conv => whnf
      exact ⟨trivial, hQ g3 cap' q1 (fun h => by omega) q2 (by rw [if_neg hh]; exact (hF.trans q3 fun w hw => Or.inl hw).weak (fun w hw => Or.inl hw) (by omega))⟩
  have hF := Fr.refl (S := (fun w => w = a)) (n := 0) (g := g)
  refine Runs_from meth_J22_addFirst (Nat.le_of_ble_eq_true rfl) (from_wp 400 meth_J22_addFirst (selfcut 32) ?_)
  conv => whnf
  refine ⟨_, h1, _, rfl, _, rfl, ?_⟩
  conv => whnf
  refine ⟨_, h1, _, rfl, _, rfl, ?_⟩
  conv => whnf
  refine ⟨_, h2, Nat.le_of_ble_eq_true rfl, by dsimp only; omega, ?_⟩
  conv => whnf
  dsimp only
  rw [hk]
  refine ⟨rfl, by omega, ?_⟩
  refine Runs_from meth_J22_dec (Nat.le_of_ble_eq_true rfl) (from_wp 400 meth_J22_dec nocut ?_)
  conv => whnf
  by_cases hl : l = []
  · subst hl
    rw [if_pos rfl] at h1 ⊢
    refine ⟨fun hh => absurd hh (by decide +kernel), fun _ => ?_⟩
    conv => whnf
    simp only [cst, nI_sub (show 1 ≤ cap by omega)]
    refine ⟨trivial, ?_⟩
    conv => whnf
    refine ⟨_, _, _, h1, rfl, _, rfl, by simp, trivial, fun g1 hp1 => ?_⟩
    conv => whnf
    have h2 := (hp1.2.2 _ (ne_tag h1 h2 rfl)).trans h2
    have hF := hF.trans (Fr.put (S := (fun w => w = a)) h1 hp1 (Or.inl rfl)) (fun w hw => Or.inl hw)
    have h1 := hp1.2.1
    dsimp only [List.set] at h1
    exact ⟨trivial, rest g1 h1 h2 hF⟩
  · rw [if_neg hl] at h1 ⊢
    simp only [cst, nI_sub (show 1 ≤ cap - l.length by omega)]
    refine ⟨fun _ => ?_, fun hh => absurd (by simp (disch := omega) only [cst, ne_eq, nI_add, nI_ltI, nI_leI, nI_eq]; omega) hh⟩
    conv => whnf
    refine ⟨trivial, ?_⟩
    conv => whnf
    refine ⟨_, _, _, h1, rfl, _, rfl, by simp, trivial, fun g1 hp1 => ?_⟩
    conv => whnf
    have h2 := (hp1.2.2 _ (ne_tag h1 h2 rfl)).trans h2
    have hF := hF.trans (Fr.put (S := (fun w => w = a)) h1 hp1 (Or.inl rfl)) (fun w hw => Or.inl hw)
    have h1 := hp1.2.1
    dsimp only [List.set] at h1
    have e : cap - l.length - 1 = cap - (l.length + 1) := by omega
    rw [e] at h1 ⊢
    exact ⟨trivial, rest g1 h1 h2 hF⟩
end DQS
