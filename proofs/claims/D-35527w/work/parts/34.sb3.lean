/-! StringBuilder.toString -/
section SB3
variable {E : Ev} {g : Hp} {a d : Nat} {s : List Nat} {Q : Post} {X : XPost}
theorem sb_getValue {b : Nat} {x y z : Value} (h : g.2 a = some (27, [.ref b, x, y, z], some a)) (hQ : Q (some (.ref b)) g) : Runs E 294 [.ref a] g d Q X := by
  refine Runs_from meth_J4_getValue (Nat.le_of_ble_eq_true rfl) (from_wp 400 meth_J4_getValue nocut ?_)
  conv => whnf
  refine ⟨_, h, _, rfl, _, rfl, ?_⟩
  conv => whnf
  exact ⟨trivial, hQ⟩
theorem bytes_range0 {b n w : Nat} {fs : List Value} {o : Option Nat} (hb : g.2 b = some (100, fs, o)) (hin : n ≤ fs.length) (hlen : fs.length < 2 ^ 25) (hd : 4 ≤ d) (hL : g.1 + 5 + n ≤ LIM) (hQ : ∀ b' g', New g g' b' (100, fs.take n, some w) n → Q (some (.ref b')) g') : Runs E 37 [.ref b, .int (nI 0), .int (nI n)] g d Q X := by
  refine Runs_from meth_J16_copyOfRange (Nat.le_of_ble_eq_true rfl) (from_wp 400 meth_J16_copyOfRange nocut ?_)
  conv => whnf
  refine ⟨fun hh => absurd hh (by decide +kernel), fun _ => ?_⟩
  conv => whnf
  refine ⟨_, hb, Nat.le_refl 100, by show fs.length < _; omega, ?_⟩
  conv => whnf
  refine ⟨fun hh => ?_, fun hh => ?_⟩
  · have hh : nI n = nI fs.length := hh
    rw [nI_eq (by omega) (by omega)] at hh
    conv => whnf
    refine ⟨rfl, by omega, fs, o, hb, by omega, fun b' hb' => ⟨w, fun g1 hnew => ?_⟩⟩
    conv => whnf
    refine ⟨_, hnew.2.2.1, rfl, ?_⟩
    conv => whnf
    refine ⟨trivial, hQ b' g1 ?_⟩
    subst hh
    rw [List.take_length]
    exact hnew
  · conv => whnf
    refine ⟨rfl, by omega, bytes_copyOfRange (w := w) hb (Nat.zero_add n).symm (by omega) hlen (by omega) hL (Or.inr rfl) fun b' g' hnew => ?_⟩
    conv => whnf
    exact ⟨trivial, hQ b' g' hnew⟩
/-- a new text out of a builder's -/
theorem sb_toString {cap : Nat} (h : SB g a s cap) (hd : 8 ≤ d) (hL : g.1 + 14 + s.length ≤ LIM) (hQ : ∀ a' g', g.2 a' = none → Str g' a' s → Fr (fun _ => False) (14 + s.length) g g' → Q (some (.ref a')) g') : Runs E 259 [.ref a] g d Q X := by
  obtain ⟨b, tl, m, h1, h2, h3, h4, h5⟩ := h
  refine Runs.post_ghost ?_
  refine Runs_from meth_J5_toString (Nat.le_of_ble_eq_true rfl) (from_wp 400 meth_J5_toString nocut ?_)
  conv => whnf
  refine ⟨by show g.1 + 5 + 4 ≤ LIM; omega, fun a' ha' => ⟨a', fun g1 hnew => ?_⟩⟩
  conv => whnf
  have hne : a ≠ a' := fun e => by rw [e, ha'] at h1; cases h1
  have h1' := (hnew.2.2.2 a hne).trans h1
  refine ⟨⟨_, hnew.2.2.1, Nat.le_of_ble_eq_true rfl⟩, rfl, by omega, ?_⟩
  refine Runs_from meth_J6_init (Nat.le_of_ble_eq_true rfl) (from_wp 400 meth_J6_init nocut ?_)
  conv => whnf
  refine ⟨⟨_, hnew.2.2.1, Nat.le_of_ble_eq_true rfl⟩, rfl, by omega, ?_⟩
  refine Runs_from meth_J6_init_2 (Nat.le_of_ble_eq_true rfl) (from_wp 400 meth_J6_init_2 nocut ?_)
  conv => whnf
  refine ⟨rfl, by omega, ?_⟩
  conv => whnf
  refine ⟨_, h1', _, rfl, rfl, by omega, sb_getValue h1' ?_⟩
  conv => whnf
  have hS1 : SB g1 a s cap := ⟨b, tl, m, h1', (hnew.2.2.2 b (fun e => by rw [e, ha'] at h2; cases h2)).trans h2, h3, h4, h5⟩
  refine ⟨_, h1', _, rfl, rfl, by omega, sb_length hS1 (by omega) ?_⟩
  conv => whnf
  refine ⟨_, h1', _, rfl, rfl, by omega, sb_isLatin1 hS1 ?_⟩
  conv => whnf
  refine ⟨fun hh => absurd hh (by decide +kernel), fun _ => ?_⟩
  conv => whnf
  refine ⟨_, _, _, hnew.2.2.1, rfl, _, rfl, by simp, nrwB (n := 0) (by omega), fun g2 hp2 => ?_⟩
  conv => whnf
  have hba : b ≠ a' := fun e => by rw [e, ha'] at h2; cases h2
  have h2' : g2.2 b = some (100, chv s ++ tl, some a) := (hp2.2.2 b hba).trans ((hnew.2.2.2 b hba).trans h2)
  have hg1 : g1.1 = g.1 + 5 + 4 := hnew.2.1
  have hg2 : g2.1 = g1.1 := hp2.1
  have hcl : (chv s ++ tl).length = s.length + tl.length := by rw [List.length_append, chv_len]
  refine ⟨rfl, by omega, bytes_range0 (w := a') h2' (by omega) (by omega) (by omega) (by omega) fun b' g3 hn3 => ?_⟩
  conv => whnf
  have hab : a' ≠ b' := fun e => by have := hn3.1; rw [← e, hp2.2.1] at this; cases this
  have h3' := (hn3.2.2.2 a' hab).trans hp2.2.1
  refine ⟨_, _, _, h3', rfl, _, rfl, by simp, trivial, fun g4 hp4 => ?_⟩
  conv => whnf
  refine ⟨trivial, ?_⟩
  conv => whnf
  refine ⟨trivial, ?_⟩
  conv => whnf
  refine ⟨trivial, frzG g4 (fun w => w = a'), frzG_rlb _ _, hQ a' _ ha' ?_ ?_⟩
  · refine ⟨b', .int (nI 0), .int (nI 0), frzG_at hp4.2.1 rfl, ?_, h4, by omega⟩
    refine frzG_at (w := a') ?_ rfl
    rw [hp4.2.2 b' (Ne.symm hab), hn3.2.2.1, List.take_append_of_le_length (by rw [chv_len]; omega), List.take_of_length_le (by rw [chv_len]; omega)]
  · have f1 : Fr (fun w => w = a') (0 + (5 + s.length) + 0 + 0) g1 (frzG g4 (fun w => w = a')) := (((Fr.put (S := fun w => w = a') hnew.2.2.1 hp2 (Or.inl rfl)).trans (Fr.new hn3) fun w hw => Or.inl hw).trans (Fr.put (S := fun w => w = a') h3' hp4 (Or.inl rfl)) fun w hw => Or.inl hw).trans Fr.frzG fun w hw => Or.inl hw
    exact (Fr.new0 (S := fun _ => False) hnew f1).weak (fun w (hw : False) => hw.elim) (by show 5 + 4 + _ ≤ _; omega)
end SB3
