/-! ArrayList: growth, add, constructors -/
def ALc (g : Hp) (a : Nat) (l : List Value) (cap : Nat) : Prop := ∃ mc b tl ob, g.2 a = some (28, [.int mc, .ref b, .int (nI l.length)], some a) ∧ g.2 b = some (105, l ++ tl, ob) ∧ (ob = some a ∨ (ob = none ∧ l ++ tl = [])) ∧ l.length + tl.length = cap ∧ cap < 2 ^ 20
theorem ALc.al {g : Hp} {a cap : Nat} {l : List Value} (h : ALc g a l cap) : AL g a l (some a) := by
  obtain ⟨mc, b, tl, ob, h1, h2, h3, h4, h5⟩ := h
  exact ⟨mc, b, tl, ob, h1, h2, h3, by rw [List.length_append]; omega⟩
section AL2
variable {E : Ev} {g : Hp} {a d : Nat} {l : List Value} {o : Option Nat} {Q : Post} {X : XPost}
theorem objs_copyOf3 {b n w : Nat} {fs : List Value} {o : Option Nat} (hb : g.2 b = some (105, fs, o)) (hl : fs.length ≤ n) (hn : n < 2 ^ 26) (hd : 2 ≤ d) (hL : g.1 + 5 + n ≤ LIM) (hQ : ∀ b' g', New g g' b' (105, fs ++ List.replicate (n - fs.length) .null, some w) n → Q (some (.ref b')) g') : Runs E 25 [.ref b, .int (nI n), .ref (la E 1000)] g d Q X := by
  refine Runs_from meth_J16_copyOf_3 (Nat.le_of_ble_eq_true rfl) (from_wp 400 meth_J16_copyOf_3 nocut ?_)
  conv => whnf
  refine ⟨fun _ => ?_, fun hh => absurd rfl hh⟩
  conv => whnf
  refine ⟨n, rfl, hn, hL, fun b' hb' => ⟨w, fun g1 hnew => ?_⟩⟩
  conv => whnf
  have hne : b ≠ b' := fun e => by rw [e, hb'] at hb; cases hb
  have hb1 : g1.2 b = some (105, fs, o) := by rw [hnew.2.2.2 b hne]; exact hb
  refine ⟨_, hb1, Nat.le_of_ble_eq_true rfl, by first | omega | (dsimp only; omega) | (simp only [List.length_append]; omega) | (simp; omega) | simp, ?_⟩
  conv => whnf
  refine ⟨rfl, by omega, math_min (by show fs.length < _; omega) (by omega) ?_⟩
  conv => whnf
  refine ⟨rfl, by omega, _, _, _, _, _, hb1, hnew.2.2.1, by omega, by omega, fs.length, 0, 0, congrArg nI (Nat.min_eq_left hl), rfl, rfl, by omega, by omega, by omega, by omega, by simp; omega, fun g2 hput => ?_⟩
  conv => whnf
  refine ⟨trivial, hQ b' g2 ?_⟩
  rw [← cpyL_grow (z := .null) hl]
  exact hnew.put hput
theorem objs_copyOf {b n w : Nat} {fs : List Value} {o : Option Nat} (hb : g.2 b = some (105, fs, o)) (hl : fs.length ≤ n) (hn : n < 2 ^ 26) (hd : 3 ≤ d) (hL : g.1 + 5 + n ≤ LIM) (hQ : ∀ b' g', New g g' b' (105, fs ++ List.replicate (n - fs.length) .null, some w) n → Q (some (.ref b')) g') : Runs E 49 [.ref b, .int (nI n)] g d Q X := by
  refine Runs_from meth_J16_copyOf_2 (Nat.le_of_ble_eq_true rfl) (from_wp 400 meth_J16_copyOf_2 nocut ?_)
  conv => whnf
  refine ⟨rfl, by omega, _, _, hb, ?_⟩
  conv => whnf
  refine ⟨rfl, by omega, objs_copyOf3 (w := w) hb hl hn (by omega) hL fun b' g1 hnew => ?_⟩
  conv => whnf
  exact ⟨trivial, hQ b' g1 hnew⟩
theorem shr1 {n : Nat} (h : n < 2 ^ 25) : nI n >>> (nI 1 &&& 31) = nI (n / 2) := by
  have e : (nI 1 &&& 31 : Int32) = 1 := by decide +kernel
  rw [e]
  apply Int32.toInt_inj.mp
  have e2 : (nI n >>> (1 : Int32)).toInt = (nI n).toInt >>> 1 := by
    rw [← Int32.toInt_toBitVec, Int32.toBitVec_shiftRight, BitVec.sshiftRight_eq', BitVec.toInt_sshiftRight, Int32.toInt_toBitVec]
    rfl
  rw [e2, nI_toInt (by omega), nI_toInt (by omega), Int.shiftRight_eq_div_pow]
  omega
theorem al_grow2 {cap k : Nat} (h : ALc g a l cap) (hk : cap < k) (hk2 : k < 2 ^ 18) (hd : 4 ≤ d) (hl : g.1 + 5 + max k (cap + cap / 2 + 10) ≤ LIM) (hQ : ∀ g' b' mc tl, g'.2 a = some (28, [.int mc, .ref b', .int (nI l.length)], some a) → g'.2 b' = some (105, l ++ tl, some a) → k ≤ l.length + tl.length → l.length + tl.length ≤ max k (cap + cap / 2 + 10) → Fr (fun w => w = a) (5 + (l.length + tl.length)) g g' → Q (some (.ref b')) g') : Runs E 301 [.ref a, .int (nI k)] g d Q X := by
  obtain ⟨mc, b, tl, ob, h1, h2, h3, h4, h5⟩ := h
  have e : (l ++ tl).length = cap := by rw [List.length_append]; exact h4
  have fin2 : ∀ (g1 g2 : Hp) (b' n : Nat), n ≤ max k (cap + cap / 2 + 10) → k ≤ n → New g g1 b' (105, (l ++ tl) ++ List.replicate (n - cap) (.null : Value), some a) n → Put g1 g2 a (28, [.int mc, .ref b', .int (nI l.length)], some a) → Q (some (.ref b')) g2 := by
    intro g1 g2 b' n hn1 hn2 hnew hput
    have hne : a ≠ b' := fun e9 => by have := hnew.1; rw [← e9, h1] at this; cases this
    have h1' : g1.2 a = some (28, [.int mc, .ref b, .int (nI l.length)], some a) := by rw [hnew.2.2.2 a hne]; exact h1
    have el : l.length + (tl ++ List.replicate (n - cap) (.null : Value)).length = n := by rw [List.length_append, List.length_replicate]; omega
    refine hQ g2 b' mc (tl ++ List.replicate (n - cap) (.null : Value)) hput.2.1 (by rw [hput.2.2 b' (Ne.symm hne), hnew.2.2.1, List.append_assoc]) (by omega) (by omega) ?_
    rw [el]
    exact (Fr.new hnew).trans (Fr.put (S := fun w => w = a) h1' hput (Or.inl rfl)) (fun w hw => Or.inl hw)
  have big : ∀ (Q' : Post) (X' : XPost), (∀ b' g1, New g g1 b' (105, (l ++ tl) ++ List.replicate (cap + max (k - cap) (cap / 2) - cap) (.null : Value), some a) (cap + max (k - cap) (cap / 2)) → Q' (some (.ref b')) g1) → Runs E 49 [.ref b, .int (nI (cap + max (k - cap) (cap / 2)))] g (d - 1) Q' X' := by
    intro Q' X' hQ'
    refine objs_copyOf (w := a) h2 (by omega) (by omega) (by omega) (by omega) fun b' g1 hnew => ?_
    rw [e] at hnew
    exact hQ' b' g1 hnew
  refine Runs_from meth_J9_grow_2 (Nat.le_of_ble_eq_true rfl) (from_wp 400 meth_J9_grow_2 nocut ?_)
  conv => whnf
  refine ⟨_, h1, _, rfl, _, rfl, ?_⟩
  conv => whnf
  refine ⟨_, h2, Nat.le_of_ble_eq_true rfl, by show (l ++ tl).length < _; omega, ?_⟩
  conv => whnf
  show _ ∧ _
  dsimp only
  rw [e]
  have run1 : ∀ P : Prop, True := fun _ => trivial
  refine ⟨fun hh => ?_, fun hh => ?_⟩
  · conv => whnf
    simp only [cst, shr1 (show cap < 2 ^ 25 by omega), nI_sub (Nat.le_of_lt hk)]
    refine ⟨rfl, by omega, arr_newLength (by omega) (by omega) (by omega) (by omega) (by omega) ?_⟩
    conv => whnf
    refine ⟨_, h1, _, rfl, _, rfl, ?_⟩
    conv => whnf
    refine ⟨rfl, by omega, big _ _ fun b' g1 hnew => ?_⟩
    conv => whnf
    have hne : a ≠ b' := fun e9 => by have := hnew.1; rw [← e9, h1] at this; cases this
    have h1' : g1.2 a = some (28, [.int mc, .ref b, .int (nI l.length)], some a) := by rw [hnew.2.2.2 a hne]; exact h1
    refine ⟨_, _, _, h1', rfl, _, rfl, by simp, trivial, fun g2 hp2 => ?_⟩
    conv => whnf
    exact ⟨trivial, fin2 g1 g2 b' _ (by omega) (by omega) hnew hp2⟩
  have hc0 : cap = 0 := by
    rcases Nat.eq_zero_or_pos cap with h0 | h0
    · exact h0
    · exact absurd (by rw [nI_ltI (by omega) (by omega)]; exact h0) hh
  conv => whnf
  refine ⟨_, h1, _, rfl, _, rfl, ?_⟩
  conv => whnf
  refine ⟨fun hs => ?_, fun hs => ?_⟩
  · conv => whnf
    refine ⟨rfl, by omega, math_max (by omega) (by omega) ?_⟩
    conv => whnf
    refine ⟨max 10 k, rfl, by omega, by omega, fun b' hb' => ⟨a, fun g1 hnew => ?_⟩⟩
    conv => whnf
    have hne : a ≠ b' := fun e9 => by have := hnew.1; rw [← e9, h1] at this; cases this
    have h1' : g1.2 a = some (28, [.int mc, .ref b, .int (nI l.length)], some a) := by rw [hnew.2.2.2 a hne]; exact h1
    refine ⟨_, _, _, h1', rfl, _, rfl, by simp, trivial, fun g2 hp2 => ?_⟩
    conv => whnf
    refine ⟨trivial, fin2 g1 g2 b' (max 10 k) (by omega) (by omega) ?_ hp2⟩
    have e0 : l ++ tl = [] := List.length_eq_zero_iff.mp (by omega)
    rw [e0, hc0]
    exact hnew
  · conv => whnf
    simp only [cst, shr1 (show cap < 2 ^ 25 by omega), nI_sub (Nat.le_of_lt hk)]
    refine ⟨rfl, by omega, arr_newLength (by omega) (by omega) (by omega) (by omega) (by omega) ?_⟩
    conv => whnf
    refine ⟨_, h1, _, rfl, _, rfl, ?_⟩
    conv => whnf
    refine ⟨rfl, by omega, big _ _ fun b' g1 hnew => ?_⟩
    conv => whnf
    have hne : a ≠ b' := fun e9 => by have := hnew.1; rw [← e9, h1] at this; cases this
    have h1' : g1.2 a = some (28, [.int mc, .ref b, .int (nI l.length)], some a) := by rw [hnew.2.2.2 a hne]; exact h1
    refine ⟨_, _, _, h1', rfl, _, rfl, by simp, trivial, fun g2 hp2 => ?_⟩
    conv => whnf
    exact ⟨trivial, fin2 g1 g2 b' _ (by omega) (by omega) hnew hp2⟩
theorem al_add {cap x : Nat} {cx : Cel} (h : ALc g a l cap) (hx : g.2 x = some cx) (hax : asgT cx.1 105 = true) (hk : l.length + 1 < 2 ^ 18) (hd : 7 ≤ d) (hl : l.length = cap → g.1 + 15 + cap + cap / 2 ≤ LIM) (hQ : ∀ g' cap', ALc g' a (l ++ [.ref x]) cap' → (l.length < cap → cap' = cap) → cap' ≤ cap + cap / 2 + 10 → Fr (fun w => w = a) (if l.length < cap then 0 else 5 + cap') g g' → Q (some (.int (nI 1))) g') : Runs E 375 [.ref a, .ref x] g d Q X := by
  have h0 := h
  obtain ⟨mc, b, tl, ob, h1, h2, h3, h4, h5⟩ := h
  have e : (l ++ tl).length = cap := by rw [List.length_append]; exact h4
  have hba : b ≠ a := fun e9 => by rw [e9, h1] at h2; cases h2
  have hcx : ∀ g' : Hp, (∃ c' : Cel, g'.2 x = some c' ∧ c'.1 = cx.1) → ∃ c : Cel, g'.2 x = some c ∧ asgT c.1 105 = true := fun g' ⟨c', e1, e2⟩ => ⟨c', e1, by rw [e2]; exact hax⟩
  -- the store and the end
  have fin2 : ∀ (mc' : Int32) (b' : Nat) (tl' : List Value) (g1 : Hp), g1.2 a = some (28, [.int mc', .ref b', .int (nI l.length)], some a) → g1.2 b' = some (105, l ++ tl', some a) → b' ≠ a → l.length < l.length + tl'.length → l.length + tl'.length < 2 ^ 20 → (l.length < cap → l.length + tl'.length = cap) → l.length + tl'.length ≤ cap + cap / 2 + 10 → Fr (fun w => w = a) (if l.length < cap then 0 else 5 + (l.length + tl'.length)) g g1 → ∀ g2 g3, Put g1 g2 b' (105, (l ++ tl').set l.length (.ref x), some a) → Put g2 g3 a (28, [.int mc', .ref b', .int (nI (l.length + 1))], some a) → Q (some (.int (nI 1))) g3 := by
    intro mc' b' tl' g1 e1 e2 hne q1 q2 q3 q4 q5 g2 g3 p2 p3
    cases tl' with
    | nil => simp at q1
    | cons t0 tl' =>
      have e1' : g2.2 a = some (28, [.int mc', .ref b', .int (nI l.length)], some a) := by rw [p2.2.2 a (Ne.symm hne)]; exact e1
      refine hQ g3 (l.length + (t0 :: tl').length) ⟨mc', b', tl', some a, ?_, ?_, Or.inl rfl, ?_, q2⟩ q3 q4 ?_
      · rw [p3.2.1, List.length_append]; rfl
      · rw [p3.2.2 b' hne, p2.2.1, List.set_append_right _ _ (Nat.le_refl _), Nat.sub_self]
        simp
      · simp; omega
      · exact (q5.trans (Fr.put (S := fun w => w = a) e2 p2 (Or.inl rfl)) fun w hw => Or.inl hw).trans (Fr.put (S := fun w => w = a) e1' p3 (Or.inl rfl)) fun w hw => Or.inl hw
  refine Runs_from meth_J9_add (Nat.le_of_ble_eq_true rfl) (from_wp 400 meth_J9_add nocut ?_)
  conv => whnf
  refine ⟨_, h1, _, rfl, _, rfl, ?_⟩
  conv => whnf
  refine ⟨_, _, _, h1, rfl, _, rfl, by simp, trivial, fun g0 hp0 => ?_⟩
  conv => whnf
  have h1' := hp0.2.1
  have h2' : g0.2 b = some (105, l ++ tl, ob) := by rw [hp0.2.2 b hba]; exact h2
  have hg0 : g0.1 = g.1 := hp0.1
  have hx0 : ∃ c' : Cel, g0.2 x = some c' ∧ c'.1 = cx.1 := hp0.keep h1 rfl x cx hx
  have f0 := Fr.put (S := fun w => w = a) h1 hp0 (Or.inl rfl)
  dsimp only [List.set] at h1'
  refine ⟨_, h1', _, rfl, _, rfl, ?_⟩
  conv => whnf
  refine ⟨_, h1', _, rfl, _, rfl, ?_⟩
  conv => whnf
  refine ⟨_, h1', _, rfl, rfl, by omega, ?_⟩
  refine Runs_from meth_J9_add_2 (Nat.le_of_ble_eq_true rfl) (from_wp 400 meth_J9_add_2 nocut ?_)
  conv => whnf
  refine ⟨_, h2', Nat.le_of_ble_eq_true rfl, by show (l ++ tl).length < _; omega, ?_⟩
  conv => whnf
  dsimp only
  rw [e]
  refine ⟨fun hh => ?_, fun hh => ?_⟩
  · conv => whnf
    have hh : l.length < cap := by
      have : ¬ l.length = cap := fun e9 => hh (by rw [e9])
      omega
    have hob : ob = some a := h3.elim id fun h => by rw [h.2] at e; simp at e; omega
    subst hob
    refine ⟨_, _, _, h2', by omega, hcx g0 hx0, l.length, rfl, by omega, by omega, fun g2 p2 => ?_⟩
    conv => whnf
    have h1a : g2.2 a = _ := (p2.2.2 a (Ne.symm hba)).trans h1'
    simp only [cst, nI_add]
    refine ⟨_, _, _, h1a, rfl, _, rfl, by simp, trivial, fun g3 p3 => ?_⟩
    conv => whnf
    refine ⟨trivial, ?_⟩
    conv => whnf
    exact ⟨Or.inr rfl, fin2 _ b tl g0 h1' h2' hba (by omega) (by omega) (fun _ => h4) (by omega) (by rw [if_pos hh]; exact f0) g2 g3 p2 p3⟩
  · have hh : l.length = cap := by
      have := Decidable.not_not.mp hh
      rwa [nI_eq (by omega) (by omega)] at this
    conv => whnf
    refine ⟨_, h1', _, rfl, rfl, by omega, ?_⟩
    refine Runs_from meth_J9_grow (Nat.le_of_ble_eq_true rfl) (from_wp 400 meth_J9_grow nocut ?_)
    conv => whnf
    refine ⟨_, h1', _, rfl, _, rfl, ?_⟩
    conv => whnf
    simp only [cst, nI_add]
    have hS : ALc g0 a l cap := ⟨_, b, tl, ob, h1', h2', h3, h4, h5⟩
    have hl := hl hh
    refine ⟨_, h1', _, rfl, rfl, by omega, al_grow2 hS (by omega) (by omega) (by omega) (by omega) fun g1 b' mc' tl' e1 e2 e3 e4 f1 => ?_⟩
    conv => whnf
    refine ⟨trivial, ?_⟩
    conv => whnf
    have hne : b' ≠ a := fun e9 => by rw [e9, e1] at e2; cases e2
    have hx1 : ∃ c' : Cel, g1.2 x = some c' ∧ c'.1 = cx.1 := (f0.trans f1 fun w hw => Or.inl hw).2.1 x cx hx
    refine ⟨_, _, _, e2, by omega, hcx g1 hx1, l.length, rfl, by omega, by rw [List.length_append]; omega, fun g2 p2 => ?_⟩
    conv => whnf
    have h1a : g2.2 a = _ := (p2.2.2 a (Ne.symm hne)).trans e1
    simp only [cst, nI_add]
    refine ⟨_, _, _, h1a, rfl, _, rfl, by simp, trivial, fun g3 p3 => ?_⟩
    conv => whnf
    refine ⟨trivial, ?_⟩
    conv => whnf
    exact ⟨Or.inr rfl, fin2 _ b' tl' g1 e1 e2 hne (by omega) (by omega) (fun h => by omega) (by omega) (by rw [if_neg (by omega)]; exact (f0.trans f1 fun w hw => Or.inl hw).weak (fun w hw => Or.inl hw) (by omega)) g2 g3 p2 p3⟩
end AL2
