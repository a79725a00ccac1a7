/-! The model's values and slips -/
/-- an empty immutable list -/
def LN0 (g : Hp) (l : Nat) : Prop := ∃ e v, g.2 l = some (39, [.ref e, .int v], none) ∧ g.2 e = some (105, [], none)
def MS (g : Hp) (a : Nat) (s : Sc) : Prop := ∃ t l, g.2 a = some (22, [.int (nI s.1), .int (zI s.2.1), .ref t, .int (nI s.2.2.2.toNat), .ref l], none) ∧ Str g t s.2.2.1 ∧ LN0 g l
def ML (g : Hp) (l : Nat) (xs : List Sc) : Prop := (xs = [] ∧ LN0 g l) ∨ ∃ as : List Nat, AL g l (as.map Value.ref) none ∧ as.length = xs.length ∧ ∀ (i : Nat) (a : Nat) (s : Sc), as[i]? = some a → xs[i]? = some s → MS g a s
def MV (g : Hp) (a : Nat) (v : Vl) : Prop := ∃ t l, g.2 a = some (22, [.int (nI (kd v)), .int (zI (nm v)), .ref t, .int (nI (sf v).toNat), .ref l], none) ∧ Str g t (tx v) ∧ ML g l v.2
theorem LN0.fr {S : Nat → Prop} {n : Nat} {g g' : Hp} {l : Nat} (h : LN0 g l) (hf : Fr S n g g') : LN0 g' l := by
  obtain ⟨e, v, h1, h2⟩ := h
  exact ⟨e, v, hf.frz h1, hf.frz h2⟩
theorem MS.fr {S : Nat → Prop} {n : Nat} {g g' : Hp} {a : Nat} {s : Sc} (h : MS g a s) (hf : Fr S n g g') : MS g' a s := by
  obtain ⟨t, l, h1, h2, h3⟩ := h
  exact ⟨t, l, hf.frz h1, h2.fr hf, h3.fr hf⟩
theorem AL.fr {S : Nat → Prop} {n : Nat} {g g' : Hp} {a : Nat} {l : List Value} (h : AL g a l none) (hf : Fr S n g g') : AL g' a l none := by
  obtain ⟨mc, b, tl, ob, h1, h2, h3, h4⟩ := h
  have h3 : ob = none := h3.elim id fun h => h.1
  subst h3
  exact ⟨mc, b, tl, none, hf.frz h1, hf.frz h2, Or.inl rfl, h4⟩
theorem ML.fr {S : Nat → Prop} {n : Nat} {g g' : Hp} {l : Nat} {xs : List Sc} (h : ML g l xs) (hf : Fr S n g g') : ML g' l xs := by
  rcases h with ⟨h1, h2⟩ | ⟨as, h1, h2, h3⟩
  · exact Or.inl ⟨h1, h2.fr hf⟩
  · exact Or.inr ⟨as, h1.fr hf, h2, fun i a s ha hs => (h3 i a s ha hs).fr hf⟩
theorem MV.fr {S : Nat → Prop} {n : Nat} {g g' : Hp} {a : Nat} {v : Vl} (h : MV g a v) (hf : Fr S n g g') : MV g' a v := by
  obtain ⟨t, l, h1, h2, h3⟩ := h
  exact ⟨t, l, hf.frz h1, h2.fr hf, h3.fr hf⟩

section SLP
variable {E : Ev} {g : Hp} {a d : Nat} {Q : Post} {X : XPost}
/-- a slip with its number -/
def Slp (g : Hp) (a n : Nat) : Prop := ∃ o, g.2 a = some (24, [.null, .null, .null, .null, .null, .int (nI 0), .int (nI n)], some o)
theorem slip_init {n : Nat} (h : g.2 a = some (24, [.null, .null, .null, .null, .null, .int (nI 0), .int (nI 0)], some a)) (hd : 5 ≤ d) (hQ : ∀ g', Slp g' a n → Fr (fun w => w = a) 0 g g' → Q none g') : Runs E 196 [.ref a, .int (nI n)] g d Q X := by
  have hF := Fr.refl (S := (fun w => w = a)) (n := 0) (g := g)
  refine Runs_from meth_X23_init (Nat.le_of_ble_eq_true rfl) (from_wp 400 meth_X23_init nocut ?_)
  conv => whnf
  refine ⟨⟨_, h, Nat.le_of_ble_eq_true rfl⟩, rfl, by omega, ?_⟩
  refine Runs_from meth_J12_init_5 (Nat.le_of_ble_eq_true rfl) (from_wp 400 meth_J12_init_5 nocut ?_)
  conv => whnf
  refine ⟨⟨_, h, Nat.le_of_ble_eq_true rfl⟩, rfl, by omega, ?_⟩
  refine Runs_from meth_J11_init_5 (Nat.le_of_ble_eq_true rfl) (from_wp 400 meth_J11_init_5 nocut ?_)
  conv => whnf
  refine ⟨⟨_, h, Nat.le_of_ble_eq_true rfl⟩, rfl, by omega, ?_⟩
  refine Runs_from meth_J10_init_5 (Nat.le_of_ble_eq_true rfl) (from_wp 400 meth_J10_init_5 nocut ?_)
  conv => whnf
  refine ⟨rfl, by omega, ?_⟩
  conv => whnf
  refine ⟨_, _, _, h, rfl, _, rfl, by simp, trivial, fun g1 hp1 => ?_⟩
  conv => whnf
  have hF := hF.trans (Fr.put (S := (fun w => w = a)) h hp1 (Or.inl rfl)) (fun w hw => Or.inl hw)
  have h := hp1.2.1
  dsimp only [List.set] at h
  refine ⟨?_, fun y => ?_⟩
  all_goals
    refine ⟨_, _, _, h, rfl, _, rfl, by simp, trivial, fun g2 hp2 => ?_⟩
    conv => whnf
    have hF := hF.trans (Fr.put (S := (fun w => w = a)) h hp2 (Or.inl rfl)) (fun w hw => Or.inl hw)
    have h := hp2.2.1
    dsimp only [List.set] at h
    refine ⟨?_, fun y2 => ?_⟩
    all_goals
      refine ⟨_, _, _, h, rfl, _, rfl, by simp, trivial, fun g3 hp3 => ?_⟩
      conv => whnf
      have hF := hF.trans (Fr.put (S := (fun w => w = a)) h hp3 (Or.inl rfl)) (fun w hw => Or.inl hw)
      have h := hp3.2.1
      dsimp only [List.set] at h
      refine ⟨fun _ => ?_, fun hh => absurd (by decide +kernel) hh⟩
      conv => whnf
      refine ⟨_, _, _, h, rfl, _, rfl, by simp, trivial, fun g4 hp4 => ?_⟩
      conv => whnf
      have hF := hF.trans (Fr.put (S := (fun w => w = a)) h hp4 (Or.inl rfl)) (fun w hw => Or.inl hw)
      have h := hp4.2.1
      dsimp only [List.set] at h
      refine ⟨_, _, _, h, rfl, _, rfl, by simp, trivial, fun g5 hp5 => ?_⟩
      conv => whnf
      have hF := hF.trans (Fr.put (S := (fun w => w = a)) h hp5 (Or.inl rfl)) (fun w hw => Or.inl hw)
      have h := hp5.2.1
      dsimp only [List.set] at h
      refine ⟨_, _, _, h, rfl, _, rfl, by simp, trivial, fun g6 hp6 => ?_⟩
      conv => whnf
      have hF := hF.trans (Fr.put (S := (fun w => w = a)) h hp6 (Or.inl rfl)) (fun w hw => Or.inl hw)
      have h := hp6.2.1
      dsimp only [List.set] at h
      refine ⟨fun hh => absurd hh (by decide +kernel), fun _ => ?_⟩
      conv => whnf
      refine ⟨_, _, _, h, rfl, _, rfl, by simp, trivial, fun g7 hp7 => ?_⟩
      conv => whnf
      have hF := hF.trans (Fr.put (S := (fun w => w = a)) h hp7 (Or.inl rfl)) (fun w hw => Or.inl hw)
      have h := hp7.2.1
      dsimp only [List.set] at h
      refine ⟨trivial, ?_⟩
      conv => whnf
      refine ⟨trivial, ?_⟩
      conv => whnf
      refine ⟨trivial, ?_⟩
      conv => whnf
      refine ⟨_, _, _, h, rfl, _, rfl, by simp, trivial, fun g8 hp8 => ?_⟩
      conv => whnf
      have hF := hF.trans (Fr.put (S := (fun w => w = a)) h hp8 (Or.inl rfl)) (fun w hw => Or.inl hw)
      have h := hp8.2.1
      dsimp only [List.set] at h
      exact ⟨trivial, hQ g8 ⟨a, h⟩ hF⟩
end SLP
