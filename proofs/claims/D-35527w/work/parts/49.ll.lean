/-! java.util.LinkedList: nodes and items -/
def rv (L : List (Nat × Nat)) (i : Nat) : Value := match L[i]? with
  | some q => .ref q.1
  | none => .null
def lp (L : List (Nat × Nat)) : Nat → Value
  | 0 => .null
  | i + 1 => rv L i
def LL (g : Hp) (a : Nat) (L : List (Nat × Nat)) (mc : Int32) : Prop := g.2 a = some (30, [.int mc, .int (nI L.length), rv L 0, lp L L.length], some a) ∧ (∀ (i p x : Nat), L[i]? = some (p, x) → g.2 p = some (31, [.ref x, rv L (i + 1), lp L i], some a)) ∧ (L.map (·.1)).Nodup ∧ L.length < 2 ^ 19
theorem rv_at {L : List (Nat × Nat)} {i p x : Nat} (h : L[i]? = some (p, x)) : rv L i = .ref p := by simp [rv, h]
theorem rv_none {L : List (Nat × Nat)} {i : Nat} (h : L.length ≤ i) : rv L i = .null := by simp [rv, h]
theorem rv_or (L : List (Nat × Nat)) (i : Nat) : (∃ p x, rv L i = .ref p ∧ L[i]? = some (p, x)) ∨ (rv L i = .null ∧ L.length ≤ i) := by
  cases h : L[i]? with
  | none => exact Or.inr ⟨by simp [rv, h], by simpa using h⟩
  | some q => exact Or.inl ⟨q.1, q.2, by simp [rv, h], rfl⟩
theorem ll_inj {L : List (Nat × Nat)} (hn : (L.map (·.1)).Nodup) {i j p x y : Nat} (h1 : L[i]? = some (p, x)) (h2 : L[j]? = some (p, y)) : i = j := by
  have e1 : (L.map (·.1))[i]? = some p := by simp [h1]
  have e2 : (L.map (·.1))[j]? = some p := by simp [h2]
  exact (List.getElem?_inj (List.getElem?_eq_some_iff.mp e1).1 hn).mp (e1.trans e2.symm)
section LLS
variable {E : Ev} {g : Hp} {a b d : Nat} {L : List (Nat × Nat)} {mc : Int32} {Q : Post} {X : XPost}
theorem ll_init {m1 z1 : Int32} (h : g.2 a = some (30, [.int m1, .int z1, .null, .null], some a)) (hd : 4 ≤ d) (hQ : ∀ g', LL g' a [] (nI 0) → Fr (fun w => w = a) 0 g g' → Q none g') : Runs E 181 [.ref a] g d Q X := by
  have hF := Fr.refl (S := (fun w => w = a)) (n := 0) (g := g)
  refine Runs_from meth_J3_init (Nat.le_of_ble_eq_true rfl) (from_wp 400 meth_J3_init nocut ?_)
  conv => whnf
  refine ⟨⟨_, h, Nat.le_of_ble_eq_true rfl⟩, rfl, by omega, ?_⟩
  refine Runs_from meth_J2_init (Nat.le_of_ble_eq_true rfl) (from_wp 400 meth_J2_init nocut ?_)
  conv => whnf
  refine ⟨⟨_, h, Nat.le_of_ble_eq_true rfl⟩, rfl, by omega, ?_⟩
  refine Runs_from meth_J1_init (Nat.le_of_ble_eq_true rfl) (from_wp 400 meth_J1_init nocut ?_)
  conv => whnf
  refine ⟨⟨_, h, Nat.le_of_ble_eq_true rfl⟩, rfl, by omega, ?_⟩
  refine Runs_from meth_J0_init (Nat.le_of_ble_eq_true rfl) (from_wp 400 meth_J0_init nocut ?_)
  conv => whnf
  refine ⟨rfl, by omega, ?_⟩
  conv => whnf
  refine ⟨trivial, ?_⟩
  conv => whnf
  refine ⟨_, _, _, h, rfl, _, rfl, by simp, trivial, fun g1 hp1 => ?_⟩
  conv => whnf
  have hF := hF.trans (Fr.put (S := (fun w => w = a)) h hp1 (Or.inl rfl)) (fun w hw => Or.inl hw)
  have h := hp1.2.1
  dsimp only [List.set] at h
  refine ⟨trivial, ?_⟩
  conv => whnf
  refine ⟨trivial, ?_⟩
  conv => whnf
  refine ⟨_, _, _, h, rfl, _, rfl, by simp, trivial, fun g2 hp2 => ?_⟩
  conv => whnf
  have hF := hF.trans (Fr.put (S := (fun w => w = a)) h hp2 (Or.inl rfl)) (fun w hw => Or.inl hw)
  have h := hp2.2.1
  dsimp only [List.set] at h
  exact ⟨trivial, hQ g2 ⟨h, (fun i p x h => by simp at h), by simp, by simp⟩ hF⟩
theorem ll_size (h : LL g a L mc) (hQ : Q (some (.int (nI L.length))) g) : Runs E 253 [.ref a] g d Q X := by
  refine Runs_from meth_J3_size (Nat.le_of_ble_eq_true rfl) (from_wp 400 meth_J3_size nocut ?_)
  conv => whnf
  refine ⟨_, h.1, _, rfl, _, rfl, ?_⟩
  conv => whnf
  exact ⟨trivial, hQ⟩
theorem rv_snoc {p x i : Nat} : rv (L ++ [(p, x)]) i = if i = L.length then .ref p else rv L i := by
  unfold rv
  by_cases h : i < L.length
  · rw [List.getElem?_append_left h, if_neg (by omega)]
  · rw [List.getElem?_append_right (by omega)]
    by_cases e : i = L.length
    · subst e; simp
    · have : L[i]? = none := by simp; omega
      rw [if_neg e, this]
      have : i - L.length ≠ 0 := by omega
      cases hh : i - L.length with
      | zero => omega
      | succ k => simp
theorem lp_snoc {p x i : Nat} (h : i ≤ L.length) : lp (L ++ [(p, x)]) i = lp L i := by
  cases i with
  | zero => rfl
  | succ i =>
    show rv _ i = rv L i
    rw [rv_snoc, if_neg (by omega)]
theorem ll_snoc {p x : Nat} {g' : Hp} {mc' : Int32} (h : LL g a L mc) (hp : g.2 p = none) (hx : (L.length + 1) < 2 ^ 19) (h1 : g'.2 a = some (30, [.int mc', .int (nI (L.length + 1)), if L = [] then .ref p else rv L 0, .ref p], some a)) (h2 : g'.2 p = some (31, [.ref x, .null, lp L L.length], some a))
    (h3 : ∀ (i q y : Nat), L[i]? = some (q, y) → g'.2 q = some (31, [.ref y, if i + 1 = L.length then .ref p else rv L (i + 1), lp L i], some a)) : LL g' a (L ++ [(p, x)]) mc' := by
  refine ⟨?_, fun i q y hi => ?_, ?_, by simpa using hx⟩
  · rw [List.length_append, rv_snoc]
    have e1 : lp (L ++ [(p, x)]) (L.length + 1) = .ref p := by show rv _ L.length = _; rw [rv_snoc, if_pos rfl]
    show g'.2 a = some (30, [.int mc', .int (nI (L.length + 1)), _, lp (L ++ [(p, x)]) (L.length + 1)], some a)
    rw [e1, h1]
    congr 4
    by_cases e : L = []
    · subst e; simp
    · have : ¬ 0 = L.length := by have := List.length_pos_iff.mpr e; omega
      rw [if_neg e, if_neg this]
  · have hl : i < L.length + 1 := by have := (List.getElem?_eq_some_iff.mp hi).1; simpa using this
    rw [rv_snoc, lp_snoc (by omega)]
    by_cases e : i < L.length
    · rw [List.getElem?_append_left e] at hi
      exact h3 i q y hi
    · have : i = L.length := by omega
      subst this
      rw [List.getElem?_append_right (Nat.le_refl _), Nat.sub_self] at hi
      cases hi
      rw [if_neg (by omega), rv_none (by omega)]
      exact h2
  · rw [List.map_append]
    refine List.nodup_append.mpr ⟨h.2.2.1, by simp, fun u hu v hv e => ?_⟩
    simp at hv
    subst hv
    subst e
    obtain ⟨q, hq, e2⟩ := List.mem_map.mp hu
    obtain ⟨i, hi⟩ := List.getElem?_of_mem hq
    obtain ⟨q1, q2⟩ := q
    have := h.2.1 i q1 q2 hi
    simp at e2
    subst e2
    rw [hp] at this
    cases this
theorem ll_add {x : Nat} (h : LL g a L mc) (hx : L.length + 1 < 2 ^ 19) (hd : 4 ≤ d) (hL : g.1 + 8 ≤ LIM) (hQ : ∀ g' p, g.2 p = none → LL g' a (L ++ [(p, x)]) (mc + nI 1) → Fr (fun w => w = a) 8 g g' → Q (some (.int (nI 1))) g') : Runs E 407 [.ref a, .ref x] g d Q X := by
  have h0 := h
  obtain ⟨h1, h2, h3, h4⟩ := h
  by_cases hl : L = []
  · subst hl
    have h1 : g.2 a = some (30, [.int mc, .int (nI 0), .null, .null], some a) := h1
    have hF := Fr.refl (S := (fun w => w = a)) (n := 0) (g := g)
    refine Runs_from meth_J3_add (Nat.le_of_ble_eq_true rfl) (from_wp 400 meth_J3_add nocut ?_)
    conv => whnf
    refine ⟨_, h1, _, rfl, rfl, by omega, ?_⟩
    refine Runs_from meth_J3_linkLast (Nat.le_of_ble_eq_true rfl) (from_wp 400 meth_J3_linkLast nocut ?_)
    conv => whnf
    refine ⟨_, h1, _, rfl, _, rfl, ?_⟩
    conv => whnf
    refine ⟨(by have := hF.2.2; simp only [List.length_cons, List.length_nil]; omega), fun p hp => ⟨a, fun g1 hn => ?_⟩⟩
    conv => whnf
    have h1 := (hn.2.2.2 _ (ne_new hp h1)).trans h1
    have hp := hn.2.2.1
    have hF := hF.trans (Fr.new (S := (fun w => w = a)) hn) (fun w hw => Or.inl hw)
    refine ⟨⟨_, hp, Nat.le_of_ble_eq_true rfl⟩, rfl, by omega, ?_⟩
    refine Runs_from meth_J28_init (Nat.le_of_ble_eq_true rfl) (from_wp 400 meth_J28_init nocut ?_)
    conv => whnf
    refine ⟨rfl, by omega, ?_⟩
    conv => whnf
    refine ⟨_, _, _, hp, rfl, _, rfl, by simp, trivial, fun g2 hp2 => ?_⟩
    conv => whnf
    have h1 := (hp2.2.2 _ (ne_tag hp h1 rfl)).trans h1
    have hF := hF.trans (Fr.put (S := (fun w => w = a)) hp hp2 (Or.inl rfl)) (fun w hw => Or.inl hw)
    have hp := hp2.2.1
    dsimp only [List.set] at hp
    refine ⟨_, _, _, hp, rfl, _, rfl, by simp, trivial, fun g3 hp3 => ?_⟩
    conv => whnf
    have h1 := (hp3.2.2 _ (ne_tag hp h1 rfl)).trans h1
    have hF := hF.trans (Fr.put (S := (fun w => w = a)) hp hp3 (Or.inl rfl)) (fun w hw => Or.inl hw)
    have hp := hp3.2.1
    dsimp only [List.set] at hp
    refine ⟨_, _, _, hp, rfl, _, rfl, by simp, trivial, fun g4 hp4 => ?_⟩
    conv => whnf
    have h1 := (hp4.2.2 _ (ne_tag hp h1 rfl)).trans h1
    have hF := hF.trans (Fr.put (S := (fun w => w = a)) hp hp4 (Or.inl rfl)) (fun w hw => Or.inl hw)
    have hp := hp4.2.1
    dsimp only [List.set] at hp
    refine ⟨trivial, ?_⟩
    conv => whnf
    refine ⟨_, _, _, h1, rfl, _, rfl, by simp, trivial, fun g5 hp5 => ?_⟩
    conv => whnf
    have hp := (hp5.2.2 _ (ne_tag h1 hp rfl)).trans hp
    have hF := hF.trans (Fr.put (S := (fun w => w = a)) h1 hp5 (Or.inl rfl)) (fun w hw => Or.inl hw)
    have h1 := hp5.2.1
    dsimp only [List.set] at h1
    refine ⟨_, _, _, h1, rfl, _, rfl, by simp, trivial, fun g6 hp6 => ?_⟩
    conv => whnf
    have hp := (hp6.2.2 _ (ne_tag h1 hp rfl)).trans hp
    have hF := hF.trans (Fr.put (S := (fun w => w = a)) h1 hp6 (Or.inl rfl)) (fun w hw => Or.inl hw)
    have h1 := hp6.2.1
    dsimp only [List.set] at h1
    refine ⟨_, h1, _, rfl, _, rfl, ?_⟩
    conv => whnf
    refine ⟨_, _, _, h1, rfl, _, rfl, by simp, trivial, fun g7 hp7 => ?_⟩
    conv => whnf
    have hp := (hp7.2.2 _ (ne_tag h1 hp rfl)).trans hp
    have hF := hF.trans (Fr.put (S := (fun w => w = a)) h1 hp7 (Or.inl rfl)) (fun w hw => Or.inl hw)
    have h1 := hp7.2.1
    dsimp only [List.set] at h1
    refine ⟨_, h1, _, rfl, _, rfl, ?_⟩
    conv => whnf
    refine ⟨_, _, _, h1, rfl, _, rfl, by simp, trivial, fun g8 hp8 => ?_⟩
    conv => whnf
    have hp := (hp8.2.2 _ (ne_tag h1 hp rfl)).trans hp
    have hF := hF.trans (Fr.put (S := (fun w => w = a)) h1 hp8 (Or.inl rfl)) (fun w hw => Or.inl hw)
    have h1 := hp8.2.1
    dsimp only [List.set] at h1
    refine ⟨trivial, ?_⟩
    conv => whnf
    refine ⟨Or.inr rfl, hQ g8 p hn.1 (ll_snoc h0 hn.1 hx (by rw [if_pos rfl]; exact h1) hp (fun i q y hi => by simp at hi)) (hF.weak (fun w hw => Or.inl hw) (by simp only [List.length_cons, List.length_nil]; omega))⟩
  · obtain ⟨n, hn0⟩ : ∃ n, L.length = n + 1 := ⟨L.length - 1, by have := List.length_pos_iff.mpr hl; omega⟩
    obtain ⟨⟨q, y⟩, hq⟩ : ∃ z, L[n]? = some z := ⟨L[n]'(by omega), List.getElem?_eq_getElem (by omega)⟩
    have hlast : lp L L.length = .ref q := by rw [hn0]; exact rv_at hq
    rw [hlast] at h1
    have hqc := h2 n q y hq
    rw [rv_none (by omega)] at hqc
    have hqa : q ≠ a := ne_tag h1 hqc rfl
    have hF := Fr.refl (S := (fun w => w = a)) (n := 0) (g := g)
    refine Runs_from meth_J3_add (Nat.le_of_ble_eq_true rfl) (from_wp 400 meth_J3_add nocut ?_)
    conv => whnf
    refine ⟨_, h1, _, rfl, rfl, by omega, ?_⟩
    refine Runs_from meth_J3_linkLast (Nat.le_of_ble_eq_true rfl) (from_wp 400 meth_J3_linkLast nocut ?_)
    conv => whnf
    refine ⟨_, h1, _, rfl, _, rfl, ?_⟩
    conv => whnf
    refine ⟨(by have := hF.2.2; simp only [List.length_cons, List.length_nil]; omega), fun p hp => ⟨a, fun g1 hn => ?_⟩⟩
    conv => whnf
    have h1 := (hn.2.2.2 _ (ne_new hp h1)).trans h1
    have hqc := (hn.2.2.2 _ (ne_new hp hqc)).trans hqc
    have hp := hn.2.2.1
    have hF := hF.trans (Fr.new (S := (fun w => w = a)) hn) (fun w hw => Or.inl hw)
    have hqp : q ≠ p := ne_new hn.1 (h2 n q y hq)
    have hpq : p ≠ q := Ne.symm hqp
    refine ⟨⟨_, hp, Nat.le_of_ble_eq_true rfl⟩, rfl, by omega, ?_⟩
    refine Runs_from meth_J28_init (Nat.le_of_ble_eq_true rfl) (from_wp 400 meth_J28_init nocut ?_)
    conv => whnf
    refine ⟨rfl, by omega, ?_⟩
    conv => whnf
    refine ⟨_, _, _, hp, rfl, _, rfl, by simp, trivial, fun g2 hp2 => ?_⟩
    conv => whnf
    have h1 := (hp2.2.2 _ (ne_tag hp h1 rfl)).trans h1
    have hqc := (hp2.2.2 _ hqp).trans hqc
    have hF := hF.trans (Fr.put (S := (fun w => w = a)) hp hp2 (Or.inl rfl)) (fun w hw => Or.inl hw)
    have hp := hp2.2.1
    dsimp only [List.set] at hp
    refine ⟨_, _, _, hp, rfl, _, rfl, by simp, trivial, fun g3 hp3 => ?_⟩
    conv => whnf
    have h1 := (hp3.2.2 _ (ne_tag hp h1 rfl)).trans h1
    have hqc := (hp3.2.2 _ hqp).trans hqc
    have hF := hF.trans (Fr.put (S := (fun w => w = a)) hp hp3 (Or.inl rfl)) (fun w hw => Or.inl hw)
    have hp := hp3.2.1
    dsimp only [List.set] at hp
    refine ⟨_, _, _, hp, rfl, _, rfl, by simp, trivial, fun g4 hp4 => ?_⟩
    conv => whnf
    have h1 := (hp4.2.2 _ (ne_tag hp h1 rfl)).trans h1
    have hqc := (hp4.2.2 _ hqp).trans hqc
    have hF := hF.trans (Fr.put (S := (fun w => w = a)) hp hp4 (Or.inl rfl)) (fun w hw => Or.inl hw)
    have hp := hp4.2.1
    dsimp only [List.set] at hp
    refine ⟨trivial, ?_⟩
    conv => whnf
    refine ⟨_, _, _, h1, rfl, _, rfl, by simp, trivial, fun g5 hp5 => ?_⟩
    conv => whnf
    have hp := (hp5.2.2 _ (ne_tag h1 hp rfl)).trans hp
    have hqc := (hp5.2.2 _ (ne_tag h1 hqc rfl)).trans hqc
    have hF := hF.trans (Fr.put (S := (fun w => w = a)) h1 hp5 (Or.inl rfl)) (fun w hw => Or.inl hw)
    have h1 := hp5.2.1
    dsimp only [List.set] at h1
    refine ⟨_, _, _, hqc, rfl, _, rfl, by simp, trivial, fun g6 hp6 => ?_⟩
    conv => whnf
    have hp := (hp6.2.2 _ hpq).trans hp
    have h1 := (hp6.2.2 _ (ne_tag hqc h1 rfl)).trans h1
    have hF := hF.trans (Fr.put (S := (fun w => w = a)) hqc hp6 (Or.inl rfl)) (fun w hw => Or.inl hw)
    have hqc := hp6.2.1
    dsimp only [List.set] at hqc
    refine ⟨_, h1, _, rfl, _, rfl, ?_⟩
    conv => whnf
    refine ⟨_, _, _, h1, rfl, _, rfl, by simp, trivial, fun g7 hp7 => ?_⟩
    conv => whnf
    have hp := (hp7.2.2 _ (ne_tag h1 hp rfl)).trans hp
    have hqc := (hp7.2.2 _ (ne_tag h1 hqc rfl)).trans hqc
    have hF := hF.trans (Fr.put (S := (fun w => w = a)) h1 hp7 (Or.inl rfl)) (fun w hw => Or.inl hw)
    have h1 := hp7.2.1
    dsimp only [List.set] at h1
    refine ⟨_, h1, _, rfl, _, rfl, ?_⟩
    conv => whnf
    refine ⟨_, _, _, h1, rfl, _, rfl, by simp, trivial, fun g8 hp8 => ?_⟩
    conv => whnf
    have hp := (hp8.2.2 _ (ne_tag h1 hp rfl)).trans hp
    have hqc := (hp8.2.2 _ (ne_tag h1 hqc rfl)).trans hqc
    have hF := hF.trans (Fr.put (S := (fun w => w = a)) h1 hp8 (Or.inl rfl)) (fun w hw => Or.inl hw)
    have h1 := hp8.2.1
    dsimp only [List.set] at h1
    refine ⟨trivial, ?_⟩
    conv => whnf
    refine ⟨Or.inr rfl, hQ g8 p hn.1 (ll_snoc h0 hn.1 hx ?_ ?_ (fun i r z hi => ?_)) (hF.weak (fun w hw => Or.inl hw) (by simp only [List.length_cons, List.length_nil]; omega))⟩
    · rw [if_neg hl, h1]
      simp only [cst, nI_add]
    · rw [hlast]; exact hp
    · have hr := h2 i r z hi
      by_cases e : i + 1 = L.length
      · have : i = n := by omega
        subst this
        rw [hq] at hi
        cases hi
        rw [if_pos e]
        exact hqc
      · rw [if_neg e]
        have r1 : r ≠ p := ne_new hn.1 hr
        have r2 : r ≠ q := fun e2 => by subst e2; have := ll_inj h3 hi hq; omega
        have r3 : r ≠ a := ne_tag h0.1 hr rfl
        rw [hp8.2.2 r r3, hp7.2.2 r r3, hp6.2.2 r r2, hp5.2.2 r r3, hp4.2.2 r r1, hp3.2.2 r r1, hp2.2.2 r r1, hn.2.2.2 r r1]
        exact hr
/-- a list without one of its nodes -/
theorem ll_cut {g' : Hp} {mc' : Int32} {i : Nat} (h : LL g a L mc) (hi : i < L.length) (h1 : g'.2 a = some (30, [.int mc', .int (nI (L.length - 1)), if i = 0 then rv L 1 else rv L 0, if i + 1 = L.length then lp L i else lp L L.length], some a))
    (h3 : ∀ (j q y : Nat), L[j]? = some (q, y) → j ≠ i → g'.2 q = some (31, [.ref y, if j + 1 = i then rv L (i + 1) else rv L (j + 1), if j = i + 1 then lp L i else lp L j], some a)) : LL g' a (L.eraseIdx i) mc' := by
  have hl : (L.eraseIdx i).length = L.length - 1 := by rw [List.length_eraseIdx, if_pos hi]
  have hg : ∀ j, (L.eraseIdx i)[j]? = if j < i then L[j]? else L[j + 1]? := fun j => by rw [List.getElem?_eraseIdx]
  have hr : ∀ j, rv (L.eraseIdx i) j = if j < i then rv L j else rv L (j + 1) := by
    intro j
    by_cases e : j < i <;> simp [rv, hg, e]
  have hlp : ∀ j, lp (L.eraseIdx i) j = if j ≤ i then lp L j else lp L (j + 1) := by
    intro j
    cases j with
    | zero => rw [if_pos (by omega)]; rfl
    | succ j =>
      show rv _ j = if j + 1 ≤ i then rv L j else rv L (j + 1)
      rw [hr]
      by_cases e : j < i
      · rw [if_pos e, if_pos (by omega)]
      · rw [if_neg e, if_neg (by omega)]
  refine ⟨?_, fun j q y hj => ?_, ?_, by have := h.2.2.2; omega⟩
  · have eA : (if i = 0 then rv L 1 else rv L 0) = if 0 < i then rv L 0 else rv L (0 + 1) := by
      by_cases e : i = 0
      · rw [if_pos e, if_neg (by omega)]
      · rw [if_neg e, if_pos (by omega)]
    have eB : (if i + 1 = L.length then lp L i else lp L L.length) = if L.length - 1 ≤ i then lp L (L.length - 1) else lp L (L.length - 1 + 1) := by
      by_cases e : i + 1 = L.length
      · rw [if_pos e, if_pos (by omega)]
        congr 1
        omega
      · rw [if_neg e, if_neg (by omega)]
        congr 1
        omega
    rw [hl, hr, hlp, h1, eA, eB]
  · rw [hg] at hj
    rw [hr, hlp]
    by_cases e : j < i
    · rw [if_pos e] at hj
      rw [h3 j q y hj (by omega), if_pos (show j ≤ i by omega), if_neg (show ¬ j = i + 1 by omega)]
      by_cases e2 : j + 1 = i
      · rw [if_pos e2, if_neg (by omega), e2]
      · rw [if_neg e2, if_pos (by omega)]
    · rw [if_neg e] at hj
      rw [h3 (j + 1) q y hj (by omega), if_neg (show ¬ j + 1 < i by omega), if_neg (show ¬ j + 1 + 1 = i by omega)]
      by_cases e2 : j = i
      · rw [if_pos (by omega), if_pos (by omega), e2]
      · rw [if_neg (by omega), if_neg (by omega)]
  · exact (h.2.2.1.sublist ((List.eraseIdx_sublist _ _).map _))
theorem lp_or (L : List (Nat × Nat)) {i : Nat} (hi : i ≤ L.length) : (i = 0 ∧ lp L i = .null) ∨ ∃ j p x, i = j + 1 ∧ lp L i = .ref p ∧ L[j]? = some (p, x) := by
  cases i with
  | zero => exact Or.inl ⟨rfl, rfl⟩
  | succ j =>
    have h := List.getElem?_eq_getElem (show j < L.length by omega)
    exact Or.inr ⟨j, (L[j]).1, (L[j]).2, rfl, rv_at h, h⟩
theorem ll_unlink {i p x : Nat} (h : LL g a L mc) (hi : L[i]? = some (p, x)) (hd : 1 ≤ d) (hQ : ∀ g', LL g' a (L.eraseIdx i) (mc + nI 1) → g'.2 p = some (31, [.null, .null, .null], some a) → Fr (fun w => w = a) 0 g g' → Q (some (.ref x)) g') : Runs E 276 [.ref a, .ref p] g d Q X := by
  have h0 := h
  obtain ⟨h1, h2, h3, h4⟩ := h
  have hil := (List.getElem?_eq_some_iff.mp hi).1
  have hp := h2 i p x hi
  have hpa : p ≠ a := ne_tag h1 hp rfl
  have nexti : ∀ n xn, L[i + 1]? = some (n, xn) → n ≠ p := fun n xn hn e => by subst e; have := ll_inj h3 hn hi; omega
  rcases rv_or L (i + 1) with ⟨n, xn, en, hn⟩ | ⟨en, hn⟩ <;> rcases lp_or L (Nat.le_of_lt hil) with ⟨e0, ep⟩ | ⟨j, pp, xp, ej, ep, hj⟩
  · -- the first of several
    subst e0
    have hne := nexti n xn hn
    have hpn := Ne.symm hne
    have hnc := h2 1 n xn hn
    have hna : n ≠ a := ne_tag h1 hnc rfl
    rw [ep, en] at hp
    have hF := Fr.refl (S := (fun w => w = a)) (n := 0) (g := g)
    refine Runs_from meth_J3_unlink (Nat.le_of_ble_eq_true rfl) (from_wp 400 meth_J3_unlink nocut ?_)
    conv => whnf
    refine ⟨_, hp, _, rfl, _, rfl, ?_⟩
    conv => whnf
    refine ⟨_, hp, _, rfl, _, rfl, ?_⟩
    conv => whnf
    refine ⟨_, hp, _, rfl, _, rfl, ?_⟩
    conv => whnf
    refine ⟨_, _, _, h1, rfl, _, rfl, by simp, trivial, fun g1 hp1 => ?_⟩
    conv => whnf
    have hp := (hp1.2.2 _ (ne_tag h1 hp rfl)).trans hp
    have hnc := (hp1.2.2 _ (ne_tag h1 hnc rfl)).trans hnc
    have hF := hF.trans (Fr.put (S := (fun w => w = a)) h1 hp1 (Or.inl rfl)) (fun w hw => Or.inl hw)
    have h1 := hp1.2.1
    dsimp only [List.set] at h1
    refine ⟨_, _, _, hnc, rfl, _, rfl, by simp, trivial, fun g2 hp2 => ?_⟩
    conv => whnf
    have h1 := (hp2.2.2 _ (ne_tag hnc h1 rfl)).trans h1
    have hp := (hp2.2.2 _ hpn).trans hp
    have hF := hF.trans (Fr.put (S := (fun w => w = a)) hnc hp2 (Or.inl rfl)) (fun w hw => Or.inl hw)
    have hnc := hp2.2.1
    dsimp only [List.set] at hnc
    refine ⟨_, _, _, hp, rfl, _, rfl, by simp, trivial, fun g3 hp3 => ?_⟩
    conv => whnf
    have h1 := (hp3.2.2 _ (ne_tag hp h1 rfl)).trans h1
    have hnc := (hp3.2.2 _ hne).trans hnc
    have hF := hF.trans (Fr.put (S := (fun w => w = a)) hp hp3 (Or.inl rfl)) (fun w hw => Or.inl hw)
    have hp := hp3.2.1
    dsimp only [List.set] at hp
    refine ⟨_, _, _, hp, rfl, _, rfl, by simp, trivial, fun g4 hp4 => ?_⟩
    conv => whnf
    have h1 := (hp4.2.2 _ (ne_tag hp h1 rfl)).trans h1
    have hnc := (hp4.2.2 _ hne).trans hnc
    have hF := hF.trans (Fr.put (S := (fun w => w = a)) hp hp4 (Or.inl rfl)) (fun w hw => Or.inl hw)
    have hp := hp4.2.1
    dsimp only [List.set] at hp
    refine ⟨_, h1, _, rfl, _, rfl, ?_⟩
    conv => whnf
    refine ⟨_, _, _, h1, rfl, _, rfl, by simp, trivial, fun g5 hp5 => ?_⟩
    conv => whnf
    have hp := (hp5.2.2 _ (ne_tag h1 hp rfl)).trans hp
    have hnc := (hp5.2.2 _ (ne_tag h1 hnc rfl)).trans hnc
    have hF := hF.trans (Fr.put (S := (fun w => w = a)) h1 hp5 (Or.inl rfl)) (fun w hw => Or.inl hw)
    have h1 := hp5.2.1
    dsimp only [List.set] at h1
    refine ⟨_, h1, _, rfl, _, rfl, ?_⟩
    conv => whnf
    refine ⟨_, _, _, h1, rfl, _, rfl, by simp, trivial, fun g6 hp6 => ?_⟩
    conv => whnf
    have hp := (hp6.2.2 _ (ne_tag h1 hp rfl)).trans hp
    have hnc := (hp6.2.2 _ (ne_tag h1 hnc rfl)).trans hnc
    have hF := hF.trans (Fr.put (S := (fun w => w = a)) h1 hp6 (Or.inl rfl)) (fun w hw => Or.inl hw)
    have h1 := hp6.2.1
    dsimp only [List.set] at h1
    refine ⟨trivial, hQ g6 (ll_cut h0 hil ?_ fun j r z hj hji => ?_) hp hF⟩
    · rw [h1, if_pos rfl, if_neg (by have := (List.getElem?_eq_some_iff.mp hn).1; omega), en]
      simp only [cst, nI_sub (show 1 ≤ L.length by omega)]
    · have hr := h2 j r z hj
      rw [if_neg (by omega)]
      by_cases e1 : j = 1
      · subst e1
        rw [hn] at hj
        cases hj
        rw [if_pos rfl, ep]
        exact hnc
      · rw [if_neg (by omega)]
        have r1 : r ≠ p := fun e => by subst e; have := ll_inj h3 hj hi; omega
        have r2 : r ≠ n := fun e => by subst e; have := ll_inj h3 hj hn; omega
        have r3 : r ≠ a := ne_tag h0.1 hr rfl
        rw [hp6.2.2 r r3, hp5.2.2 r r3, hp4.2.2 r r1, hp3.2.2 r r1, hp2.2.2 r r2, hp1.2.2 r r3]
        exact hr
  · -- between two
    subst ej
    have hne := nexti n xn hn
    have hpn := Ne.symm hne
    have hnc := h2 (j + 1 + 1) n xn hn
    have hqc := h2 j pp xp hj
    have hqp : pp ≠ p := fun e => by subst e; have := ll_inj h3 hj hi; omega
    have hqn : pp ≠ n := fun e => by subst e; have := ll_inj h3 hj hn; omega
    have hpq := Ne.symm hqp
    have hnq := Ne.symm hqn
    rw [ep, en] at hp
    have hF := Fr.refl (S := (fun w => w = a)) (n := 0) (g := g)
    refine Runs_from meth_J3_unlink (Nat.le_of_ble_eq_true rfl) (from_wp 400 meth_J3_unlink nocut ?_)
    conv => whnf
    refine ⟨_, hp, _, rfl, _, rfl, ?_⟩
    conv => whnf
    refine ⟨_, hp, _, rfl, _, rfl, ?_⟩
    conv => whnf
    refine ⟨_, hp, _, rfl, _, rfl, ?_⟩
    conv => whnf
    refine ⟨_, _, _, hqc, rfl, _, rfl, by simp, trivial, fun g1 hp1 => ?_⟩
    conv => whnf
    have h1 := (hp1.2.2 _ (ne_tag hqc h1 rfl)).trans h1
    have hp := (hp1.2.2 _ hpq).trans hp
    have hnc := (hp1.2.2 _ hnq).trans hnc
    have hF := hF.trans (Fr.put (S := (fun w => w = a)) hqc hp1 (Or.inl rfl)) (fun w hw => Or.inl hw)
    have hqc := hp1.2.1
    dsimp only [List.set] at hqc
    refine ⟨_, _, _, hp, rfl, _, rfl, by simp, trivial, fun g2 hp2 => ?_⟩
    conv => whnf
    have h1 := (hp2.2.2 _ (ne_tag hp h1 rfl)).trans h1
    have hnc := (hp2.2.2 _ hne).trans hnc
    have hqc := (hp2.2.2 _ hqp).trans hqc
    have hF := hF.trans (Fr.put (S := (fun w => w = a)) hp hp2 (Or.inl rfl)) (fun w hw => Or.inl hw)
    have hp := hp2.2.1
    dsimp only [List.set] at hp
    refine ⟨_, _, _, hnc, rfl, _, rfl, by simp, trivial, fun g3 hp3 => ?_⟩
    conv => whnf
    have h1 := (hp3.2.2 _ (ne_tag hnc h1 rfl)).trans h1
    have hp := (hp3.2.2 _ hpn).trans hp
    have hqc := (hp3.2.2 _ hqn).trans hqc
    have hF := hF.trans (Fr.put (S := (fun w => w = a)) hnc hp3 (Or.inl rfl)) (fun w hw => Or.inl hw)
    have hnc := hp3.2.1
    dsimp only [List.set] at hnc
    refine ⟨_, _, _, hp, rfl, _, rfl, by simp, trivial, fun g4 hp4 => ?_⟩
    conv => whnf
    have h1 := (hp4.2.2 _ (ne_tag hp h1 rfl)).trans h1
    have hnc := (hp4.2.2 _ hne).trans hnc
    have hqc := (hp4.2.2 _ hqp).trans hqc
    have hF := hF.trans (Fr.put (S := (fun w => w = a)) hp hp4 (Or.inl rfl)) (fun w hw => Or.inl hw)
    have hp := hp4.2.1
    dsimp only [List.set] at hp
    refine ⟨_, _, _, hp, rfl, _, rfl, by simp, trivial, fun g5 hp5 => ?_⟩
    conv => whnf
    have h1 := (hp5.2.2 _ (ne_tag hp h1 rfl)).trans h1
    have hnc := (hp5.2.2 _ hne).trans hnc
    have hqc := (hp5.2.2 _ hqp).trans hqc
    have hF := hF.trans (Fr.put (S := (fun w => w = a)) hp hp5 (Or.inl rfl)) (fun w hw => Or.inl hw)
    have hp := hp5.2.1
    dsimp only [List.set] at hp
    refine ⟨_, h1, _, rfl, _, rfl, ?_⟩
    conv => whnf
    refine ⟨_, _, _, h1, rfl, _, rfl, by simp, trivial, fun g6 hp6 => ?_⟩
    conv => whnf
    have hp := (hp6.2.2 _ (ne_tag h1 hp rfl)).trans hp
    have hnc := (hp6.2.2 _ (ne_tag h1 hnc rfl)).trans hnc
    have hqc := (hp6.2.2 _ (ne_tag h1 hqc rfl)).trans hqc
    have hF := hF.trans (Fr.put (S := (fun w => w = a)) h1 hp6 (Or.inl rfl)) (fun w hw => Or.inl hw)
    have h1 := hp6.2.1
    dsimp only [List.set] at h1
    refine ⟨_, h1, _, rfl, _, rfl, ?_⟩
    conv => whnf
    refine ⟨_, _, _, h1, rfl, _, rfl, by simp, trivial, fun g7 hp7 => ?_⟩
    conv => whnf
    have hp := (hp7.2.2 _ (ne_tag h1 hp rfl)).trans hp
    have hnc := (hp7.2.2 _ (ne_tag h1 hnc rfl)).trans hnc
    have hqc := (hp7.2.2 _ (ne_tag h1 hqc rfl)).trans hqc
    have hF := hF.trans (Fr.put (S := (fun w => w = a)) h1 hp7 (Or.inl rfl)) (fun w hw => Or.inl hw)
    have h1 := hp7.2.1
    dsimp only [List.set] at h1
    refine ⟨trivial, hQ g7 (ll_cut h0 hil ?_ fun k r z hk hki => ?_) hp hF⟩
    · rw [h1, if_neg (by omega), if_neg (by have := (List.getElem?_eq_some_iff.mp hn).1; omega)]
      simp only [cst, nI_sub (show 1 ≤ L.length by omega)]
    · have hr := h2 k r z hk
      by_cases e1 : k = j + 1 + 1
      · subst e1
        rw [hn] at hk
        cases hk
        rw [if_neg (by omega), if_pos rfl, ep]
        exact hnc
      · rw [if_neg e1]
        by_cases e2 : k = j
        · subst e2
          rw [hj] at hk
          cases hk
          rw [if_pos rfl, en]
          exact hqc
        · rw [if_neg (by omega)]
          have r1 : r ≠ p := fun e => by subst e; have := ll_inj h3 hk hi; omega
          have r2 : r ≠ n := fun e => by subst e; have := ll_inj h3 hk hn; omega
          have r4 : r ≠ pp := fun e => by subst e; have := ll_inj h3 hk hj; omega
          have r3 : r ≠ a := ne_tag h0.1 hr rfl
          rw [hp7.2.2 r r3, hp6.2.2 r r3, hp5.2.2 r r1, hp4.2.2 r r1, hp3.2.2 r r2, hp2.2.2 r r1, hp1.2.2 r r4]
          exact hr
  · -- the only one
    subst e0
    have hl1 : L.length = 1 := by omega
    rw [ep, en] at hp
    have hF := Fr.refl (S := (fun w => w = a)) (n := 0) (g := g)
    refine Runs_from meth_J3_unlink (Nat.le_of_ble_eq_true rfl) (from_wp 400 meth_J3_unlink nocut ?_)
    conv => whnf
    refine ⟨_, hp, _, rfl, _, rfl, ?_⟩
    conv => whnf
    refine ⟨_, hp, _, rfl, _, rfl, ?_⟩
    conv => whnf
    refine ⟨_, hp, _, rfl, _, rfl, ?_⟩
    conv => whnf
    refine ⟨_, _, _, h1, rfl, _, rfl, by simp, trivial, fun g1 hp1 => ?_⟩
    conv => whnf
    have hp := (hp1.2.2 _ (ne_tag h1 hp rfl)).trans hp
    have hF := hF.trans (Fr.put (S := (fun w => w = a)) h1 hp1 (Or.inl rfl)) (fun w hw => Or.inl hw)
    have h1 := hp1.2.1
    dsimp only [List.set] at h1
    refine ⟨_, _, _, h1, rfl, _, rfl, by simp, trivial, fun g2 hp2 => ?_⟩
    conv => whnf
    have hp := (hp2.2.2 _ (ne_tag h1 hp rfl)).trans hp
    have hF := hF.trans (Fr.put (S := (fun w => w = a)) h1 hp2 (Or.inl rfl)) (fun w hw => Or.inl hw)
    have h1 := hp2.2.1
    dsimp only [List.set] at h1
    refine ⟨_, _, _, hp, rfl, _, rfl, by simp, trivial, fun g3 hp3 => ?_⟩
    conv => whnf
    have h1 := (hp3.2.2 _ (ne_tag hp h1 rfl)).trans h1
    have hF := hF.trans (Fr.put (S := (fun w => w = a)) hp hp3 (Or.inl rfl)) (fun w hw => Or.inl hw)
    have hp := hp3.2.1
    dsimp only [List.set] at hp
    refine ⟨_, h1, _, rfl, _, rfl, ?_⟩
    conv => whnf
    refine ⟨_, _, _, h1, rfl, _, rfl, by simp, trivial, fun g4 hp4 => ?_⟩
    conv => whnf
    have hp := (hp4.2.2 _ (ne_tag h1 hp rfl)).trans hp
    have hF := hF.trans (Fr.put (S := (fun w => w = a)) h1 hp4 (Or.inl rfl)) (fun w hw => Or.inl hw)
    have h1 := hp4.2.1
    dsimp only [List.set] at h1
    refine ⟨_, h1, _, rfl, _, rfl, ?_⟩
    conv => whnf
    refine ⟨_, _, _, h1, rfl, _, rfl, by simp, trivial, fun g5 hp5 => ?_⟩
    conv => whnf
    have hp := (hp5.2.2 _ (ne_tag h1 hp rfl)).trans hp
    have hF := hF.trans (Fr.put (S := (fun w => w = a)) h1 hp5 (Or.inl rfl)) (fun w hw => Or.inl hw)
    have h1 := hp5.2.1
    dsimp only [List.set] at h1
    refine ⟨trivial, hQ g5 (ll_cut h0 hil ?_ fun k r z hk hki => ?_) hp hF⟩
    · rw [h1, if_pos rfl, if_pos (by omega), en, ep]
      simp only [cst, nI_sub (show 1 ≤ L.length by omega)]
    · have := (List.getElem?_eq_some_iff.mp hk).1
      omega
  · -- the last of several
    subst ej
    have hqc := h2 j pp xp hj
    have hqp : pp ≠ p := fun e => by subst e; have := ll_inj h3 hj hi; omega
    have hpq := Ne.symm hqp
    rw [ep, en] at hp
    have hF := Fr.refl (S := (fun w => w = a)) (n := 0) (g := g)
    refine Runs_from meth_J3_unlink (Nat.le_of_ble_eq_true rfl) (from_wp 400 meth_J3_unlink nocut ?_)
    conv => whnf
    refine ⟨_, hp, _, rfl, _, rfl, ?_⟩
    conv => whnf
    refine ⟨_, hp, _, rfl, _, rfl, ?_⟩
    conv => whnf
    refine ⟨_, hp, _, rfl, _, rfl, ?_⟩
    conv => whnf
    refine ⟨_, _, _, hqc, rfl, _, rfl, by simp, trivial, fun g1 hp1 => ?_⟩
    conv => whnf
    have h1 := (hp1.2.2 _ (ne_tag hqc h1 rfl)).trans h1
    have hp := (hp1.2.2 _ hpq).trans hp
    have hF := hF.trans (Fr.put (S := (fun w => w = a)) hqc hp1 (Or.inl rfl)) (fun w hw => Or.inl hw)
    have hqc := hp1.2.1
    dsimp only [List.set] at hqc
    refine ⟨_, _, _, hp, rfl, _, rfl, by simp, trivial, fun g2 hp2 => ?_⟩
    conv => whnf
    have h1 := (hp2.2.2 _ (ne_tag hp h1 rfl)).trans h1
    have hqc := (hp2.2.2 _ hqp).trans hqc
    have hF := hF.trans (Fr.put (S := (fun w => w = a)) hp hp2 (Or.inl rfl)) (fun w hw => Or.inl hw)
    have hp := hp2.2.1
    dsimp only [List.set] at hp
    refine ⟨_, _, _, h1, rfl, _, rfl, by simp, trivial, fun g3 hp3 => ?_⟩
    conv => whnf
    have hp := (hp3.2.2 _ (ne_tag h1 hp rfl)).trans hp
    have hqc := (hp3.2.2 _ (ne_tag h1 hqc rfl)).trans hqc
    have hF := hF.trans (Fr.put (S := (fun w => w = a)) h1 hp3 (Or.inl rfl)) (fun w hw => Or.inl hw)
    have h1 := hp3.2.1
    dsimp only [List.set] at h1
    refine ⟨_, _, _, hp, rfl, _, rfl, by simp, trivial, fun g4 hp4 => ?_⟩
    conv => whnf
    have h1 := (hp4.2.2 _ (ne_tag hp h1 rfl)).trans h1
    have hqc := (hp4.2.2 _ hqp).trans hqc
    have hF := hF.trans (Fr.put (S := (fun w => w = a)) hp hp4 (Or.inl rfl)) (fun w hw => Or.inl hw)
    have hp := hp4.2.1
    dsimp only [List.set] at hp
    refine ⟨_, h1, _, rfl, _, rfl, ?_⟩
    conv => whnf
    refine ⟨_, _, _, h1, rfl, _, rfl, by simp, trivial, fun g5 hp5 => ?_⟩
    conv => whnf
    have hp := (hp5.2.2 _ (ne_tag h1 hp rfl)).trans hp
    have hqc := (hp5.2.2 _ (ne_tag h1 hqc rfl)).trans hqc
    have hF := hF.trans (Fr.put (S := (fun w => w = a)) h1 hp5 (Or.inl rfl)) (fun w hw => Or.inl hw)
    have h1 := hp5.2.1
    dsimp only [List.set] at h1
    refine ⟨_, h1, _, rfl, _, rfl, ?_⟩
    conv => whnf
    refine ⟨_, _, _, h1, rfl, _, rfl, by simp, trivial, fun g6 hp6 => ?_⟩
    conv => whnf
    have hp := (hp6.2.2 _ (ne_tag h1 hp rfl)).trans hp
    have hqc := (hp6.2.2 _ (ne_tag h1 hqc rfl)).trans hqc
    have hF := hF.trans (Fr.put (S := (fun w => w = a)) h1 hp6 (Or.inl rfl)) (fun w hw => Or.inl hw)
    have h1 := hp6.2.1
    dsimp only [List.set] at h1
    refine ⟨trivial, hQ g6 (ll_cut h0 hil ?_ fun k r z hk hki => ?_) hp hF⟩
    · rw [h1, if_neg (by omega), if_pos (by omega), ep]
      simp only [cst, nI_sub (show 1 ≤ L.length by omega)]
    · have hr := h2 k r z hk
      have hkl := (List.getElem?_eq_some_iff.mp hk).1
      rw [if_neg (show ¬ k = j + 1 + 1 by omega)]
      by_cases e2 : k = j
      · subst e2
        rw [hj] at hk
        cases hk
        rw [if_pos rfl, en]
        exact hqc
      · rw [if_neg (by omega)]
        have r1 : r ≠ p := fun e => by subst e; have := ll_inj h3 hk hi; omega
        have r4 : r ≠ pp := fun e => by subst e; have := ll_inj h3 hk hj; omega
        have r3 : r ≠ a := ne_tag h0.1 hr rfl
        rw [hp6.2.2 r r3, hp5.2.2 r r3, hp4.2.2 r r1, hp3.2.2 r r3, hp2.2.2 r r1, hp1.2.2 r r4]
        exact hr
end LLS
