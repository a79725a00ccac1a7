/-! StringBuilder: made, its text -/
section SB2
variable {E : Ev} {g : Hp} {a d : Nat} {s : List Nat} {Q : Post} {X : XPost}
theorem sb_init (h : g.2 a = some (27, [.null, .int (nI 0), .int (nI 0), .int (nI 0)], some a)) (hd : 2 ≤ d) (hl : g.1 + 21 ≤ LIM) (hQ : ∀ g', SB g' a [] 16 → Fr (fun w => w = a) 21 g g' → Q none g') : Runs E 20 [.ref a] g d Q X := by
  refine Runs_from meth_J5_init (Nat.le_of_ble_eq_true rfl) (from_wp 400 meth_J5_init nocut ?_)
  conv => whnf
  refine ⟨⟨_, h, Nat.le_of_ble_eq_true rfl⟩, rfl, by omega, ?_⟩
  refine Runs_from meth_J4_init (Nat.le_of_ble_eq_true rfl) (from_wp 400 meth_J4_init nocut ?_)
  conv => whnf
  refine ⟨rfl, by omega, ?_⟩
  conv => whnf
  refine ⟨fun hh => absurd hh (by decide +kernel), fun _ => ?_⟩
  conv => whnf
  refine ⟨16, rfl, by omega, hl, fun b hb => ⟨a, fun g1 hnew => ?_⟩⟩
  conv => whnf
  have hne : a ≠ b := fun e9 => by rw [← e9, h] at hb; cases hb
  have h1 : g1.2 a = some (27, [.null, .int (nI 0), .int (nI 0), .int (nI 0)], some a) := by rw [hnew.2.2.2 a hne]; exact h
  refine ⟨_, _, _, h1, rfl, _, rfl, by simp, trivial, fun g2 hp2 => ?_⟩
  conv => whnf
  refine ⟨_, _, _, hp2.2.1, rfl, _, rfl, by simp, nrwB (n := 0) (by omega), fun g3 hp3 => ?_⟩
  conv => whnf
  refine ⟨trivial, ?_⟩
  conv => whnf
  refine ⟨trivial, hQ g3 ?_ ?_⟩
  · refine ⟨b, List.replicate 16 (.int (nI 0)), nI 0, hp3.2.1, ?_, rfl, (by intro c hc; cases hc), by omega⟩
    rw [hp3.2.2 b (Ne.symm hne), hp2.2.2 b (Ne.symm hne)]
    exact hnew.2.2.1
  · exact ((Fr.new hnew).trans (Fr.put (S := fun w => w = a) h1 hp2 (Or.inl rfl)) fun w hw => Or.inl hw).trans (Fr.put (S := fun w => w = a) hp2.2.1 hp3 (Or.inl rfl)) fun w hw => Or.inl hw
theorem bytes_copyOfRange {b i j n w : Nat} {fs : List Value} {o : Option Nat} (hb : g.2 b = some (100, fs, o)) (hj : j = i + n) (hin : i + n ≤ fs.length) (hlen : fs.length < 2 ^ 25) (hd : 3 ≤ d) (hL : g.1 + 5 + n ≤ LIM) (hn0 : 0 < n ∨ i = 0) (hQ : ∀ b' g', New g g' b' (100, (fs.drop i).take n, some w) n → Q (some (.ref b')) g') : Runs E 23 [.ref b, .int (nI i), .int (nI j)] g d Q X := by
  subst hj
  refine Runs_from meth_J16_copyOfRangeByte (Nat.le_of_ble_eq_true rfl) (from_wp 400 meth_J16_copyOfRangeByte nocut ?_)
  conv => whnf
  refine ⟨rfl, by omega, ?_⟩
  refine Runs_from meth_J16_checkLength (Nat.le_of_ble_eq_true rfl) (from_wp 400 meth_J16_checkLength nocut ?_)
  conv => whnf
  refine ⟨fun _ => ?_, fun hh => absurd (by simp (disch := omega) only [cst, ne_eq, nI_add, nI_ltI, nI_leI, nI_eq]; omega) hh⟩
  conv => whnf
  refine ⟨trivial, ?_⟩
  conv => whnf
  rw [nI_sub (Nat.le_add_right i n), Nat.add_sub_cancel_left]
  refine ⟨n, rfl, by omega, hL, fun b' hb' => ⟨w, fun g1 hnew => ?_⟩⟩
  conv => whnf
  have hne : b ≠ b' := fun e => by rw [e, hb'] at hb; cases hb
  have hb1 : g1.2 b = some (100, fs, o) := by rw [hnew.2.2.2 b hne]; exact hb
  refine ⟨_, hb1, Nat.le_refl 100, by show fs.length < _; omega, ?_⟩
  conv => whnf
  rw [show nI (100, fs, o).2.1.length - nI i = nI (fs.length - i) from nI_sub (show i ≤ fs.length by omega)]
  refine ⟨rfl, by omega, math_min (by omega) (by omega) ?_⟩
  rw [Nat.min_eq_right (by omega)]
  conv => whnf
  refine ⟨rfl, by omega, _, _, _, _, _, hb1, hnew.2.2.1, by omega, by omega, n, 0, i, rfl, rfl, rfl, by omega, by omega, by omega, by show i + n ≤ fs.length; omega, by simp, fun g2 hput => ?_⟩
  conv => whnf
  refine ⟨trivial, hQ b' g2 ?_⟩
  have e : (fs.drop i).take n = cpyL fs i (List.replicate n (.int (nI 0))) 0 n := by simp [cpyL]
  rw [e]
  exact hnew.put hput
end SB2
