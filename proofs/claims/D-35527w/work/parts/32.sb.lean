/-! java.lang.StringBuilder -/
def SB (g : Hp) (a : Nat) (s : List Nat) (cap : Nat) : Prop := ∃ b tl m, g.2 a = some (27, [.ref b, .int (nI 0), .int m, .int (nI s.length)], some a) ∧ g.2 b = some (100, chv s ++ tl, some a) ∧ s.length + tl.length = cap ∧ asc7 s ∧ cap < 2 ^ 20
section SB
variable {E : Ev} {g : Hp} {a d : Nat} {s : List Nat} {Q : Post} {X : XPost}
theorem math_max {x y : Nat} (hx : x < 2 ^ 31) (hy : y < 2 ^ 31) (hQ : Q (some (.int (nI (max x y)))) g) : Runs E 14 [.int (nI x), .int (nI y)] g d Q X := by
  refine Runs_from meth_J15_max (Nat.le_of_ble_eq_true rfl) (from_wp 400 meth_J15_max nocut ?_)
  conv => whnf
  refine ⟨fun hh => ?_, fun hh => ?_⟩
  all_goals
    rw [nI_ltI hx hy] at hh
    conv => whnf
    refine ⟨trivial, ?_⟩
  · rw [Nat.max_eq_right (by omega)] at hQ; exact hQ
  · rw [Nat.max_eq_left (by omega)] at hQ; exact hQ
theorem math_min {x y : Nat} (hx : x < 2 ^ 31) (hy : y < 2 ^ 31) (hQ : Q (some (.int (nI (min x y)))) g) : Runs E 22 [.int (nI x), .int (nI y)] g d Q X := by
  refine Runs_from meth_J15_min (Nat.le_of_ble_eq_true rfl) (from_wp 400 meth_J15_min nocut ?_)
  conv => whnf
  refine ⟨fun hh => ?_, fun hh => ?_⟩
  all_goals
    rw [nI_ltI hy hx] at hh
    conv => whnf
    refine ⟨trivial, ?_⟩
  · rw [Nat.min_eq_right (by omega)] at hQ; exact hQ
  · rw [Nat.min_eq_left (by omega)] at hQ; exact hQ
theorem arr_newLength {l m p : Nat} (hl : l < 2 ^ 25) (hm : m < 2 ^ 25) (hp : p < 2 ^ 25) (h0 : 0 < l + max m p) (hd : 1 ≤ d) (hQ : Q (some (.int (nI (l + max m p)))) g) : Runs E 83 [.int (nI l), .int (nI m), .int (nI p)] g d Q X := by
  have hmx : max m p < 2 ^ 25 := by omega
  refine Runs_from meth_J14_newLength (Nat.le_of_ble_eq_true rfl) (from_wp 400 meth_J14_newLength nocut ?_)
  conv => whnf
  refine ⟨rfl, by omega, math_max (by omega) (by omega) ?_⟩
  conv => whnf
  simp only [nI_add]
  refine ⟨fun hh => absurd hh (by simp (disch := omega) only [cst, ne_eq, nI_add, nI_ltI, nI_leI, nI_eq]; omega), fun _ => ?_⟩
  conv => whnf
  refine ⟨fun hh => absurd hh (by simp (disch := omega) only [cst, ne_eq, nI_add, nI_ltI, nI_leI, nI_eq]; omega), fun _ => ?_⟩
  conv => whnf
  exact ⟨trivial, hQ⟩
theorem bytes_copyOf {b n w : Nat} {fs : List Value} {o : Option Nat} (hb : g.2 b = some (100, fs, o)) (hl : fs.length < n) (hn : n < 2 ^ 26) (hd : 2 ≤ d) (hL : g.1 + 5 + n ≤ LIM) (hQ : ∀ b' g', New g g' b' (100, fs ++ List.replicate (n - fs.length) (.int (nI 0)), some w) n → Q (some (.ref b')) g') : Runs E 80 [.ref b, .int (nI n)] g d Q X := by
  refine Runs_from meth_J16_copyOf (Nat.le_of_ble_eq_true rfl) (from_wp 400 meth_J16_copyOf nocut ?_)
  conv => whnf
  refine ⟨_, hb, Nat.le_refl 100, by show fs.length < _; omega, ?_⟩
  conv => whnf
  refine ⟨fun _ => ?_, fun hh => absurd (by show ¬ (nI n = nI fs.length); rw [nI_eq (by omega) (by omega)]; omega) hh⟩
  conv => whnf
  refine ⟨n, rfl, hn, hL, fun b' hb' => ⟨w, fun g1 hnew => ?_⟩⟩
  conv => whnf
  have hne : b ≠ b' := fun e => by rw [e, hb'] at hb; cases hb
  have hb1 : g1.2 b = some (100, fs, o) := by rw [hnew.2.2.2 b hne]; exact hb
  refine ⟨_, hb1, Nat.le_refl 100, by show fs.length < _; omega, ?_⟩
  conv => whnf
  refine ⟨rfl, by omega, math_min (by show fs.length < _; omega) (by omega) ?_⟩
  conv => whnf
  refine ⟨rfl, by omega, _, _, _, _, _, hb1, hnew.2.2.1, by omega, by omega, fs.length, 0, 0, congrArg nI (Nat.min_eq_left (Nat.le_of_lt hl)), rfl, rfl, by omega, by omega, by omega, by omega, by simp; omega, fun g2 hput => ?_⟩
  conv => whnf
  refine ⟨trivial, hQ b' g2 ?_⟩
  rw [← cpyL_grow (z := .int (nI 0)) (Nat.le_of_lt hl)]
  exact hnew.put hput
theorem sb_isLatin1 {cap : Nat} (h : SB g a s cap) (hQ : Q (some (.int (nI 1))) g) : Runs E 287 [.ref a] g d Q X := by
  obtain ⟨b, tl, m, h1, h2, h3, h4, h5⟩ := h
  refine Runs_from meth_J4_isLatin1 (Nat.le_of_ble_eq_true rfl) (from_wp 400 meth_J4_isLatin1 nocut ?_)
  conv => whnf
  refine ⟨fun hh => absurd hh (by decide +kernel), fun _ => ?_⟩
  conv => whnf
  refine ⟨_, h1, _, rfl, _, rfl, ?_⟩
  conv => whnf
  refine ⟨fun hh => absurd hh (by decide +kernel), fun _ => ?_⟩
  conv => whnf
  exact ⟨Or.inr rfl, hQ⟩
theorem sb_length {cap : Nat} (h : SB g a s cap) (hd : 1 ≤ d) (hQ : Q (some (.int (nI s.length))) g) : Runs E 295 [.ref a] g d Q X := by
  obtain ⟨b, tl, m, h1, h2, h3, h4, h5⟩ := h
  refine Runs_from meth_J5_length (Nat.le_of_ble_eq_true rfl) (from_wp 400 meth_J5_length nocut ?_)
  conv => whnf
  refine ⟨⟨_, h1, Nat.le_of_ble_eq_true rfl⟩, rfl, by omega, ?_⟩
  refine Runs_from meth_J4_length (Nat.le_of_ble_eq_true rfl) (from_wp 400 meth_J4_length nocut ?_)
  conv => whnf
  refine ⟨_, h1, _, rfl, _, rfl, ?_⟩
  conv => whnf
  refine ⟨trivial, ?_⟩
  conv => whnf
  exact ⟨trivial, hQ⟩
theorem sb_ensure {cap k : Nat} (h : SB g a s cap) (hk : k < 2 ^ 19) (hd : 3 ≤ d) (hl : cap < k → g.1 + 5 + max k (2 * cap + 2) ≤ LIM) (hQ1 : k ≤ cap → Q none g) (hQ2 : cap < k → ∀ g', SB g' a s (max k (2 * cap + 2)) → Fr (fun w => w = a) (5 + max k (2 * cap + 2)) g g' → Q none g') : Runs E 519 [.ref a, .int (nI k)] g d Q X := by
  obtain ⟨b, tl, m, h1, h2, h3, h4, h5⟩ := h
  have e : (100, chv s ++ tl, (some a : Option Nat)).2.1.length = cap := by simp [chv_len, h3]
  refine Runs_from meth_J4_ensureCapacityInternal (Nat.le_of_ble_eq_true rfl) (from_wp 400 meth_J4_ensureCapacityInternal nocut ?_)
  conv => whnf
  refine ⟨_, h1, _, rfl, _, rfl, ?_⟩
  conv => whnf
  refine ⟨_, h2, Nat.le_refl 100, by rw [e]; omega, ?_⟩
  conv => whnf
  refine ⟨_, h1, _, rfl, _, rfl, ?_⟩
  conv => whnf
  simp only [shr0, e]
  refine ⟨fun hh => ?_, fun hh => ?_⟩
  · rw [sub_le0 (by omega) (by omega)] at hh
    conv => whnf
    exact ⟨trivial, hQ1 hh⟩
  rw [sub_le0 (by omega) (by omega)] at hh
  have hh : cap < k := by omega
  have hl := hl hh
  have hQ2 := hQ2 hh
  conv => whnf
  refine ⟨_, h1, _, rfl, _, rfl, ?_⟩
  conv => whnf
  refine ⟨_, h1, _, rfl, rfl, by omega, ?_⟩
  refine Runs_from meth_J4_newCapacity (Nat.le_of_ble_eq_true rfl) (from_wp 400 meth_J4_newCapacity nocut ?_)
  conv => whnf
  refine ⟨_, h1, _, rfl, _, rfl, ?_⟩
  conv => whnf
  refine ⟨_, h2, Nat.le_refl 100, by rw [e]; omega, ?_⟩
  conv => whnf
  refine ⟨_, h1, _, rfl, _, rfl, ?_⟩
  conv => whnf
  simp only [shl0, shr0, e]
  refine ⟨_, h1, _, rfl, _, rfl, ?_⟩
  conv => whnf
  simp only [shl0, shr0, e, cst, nI_add, nI_sub (Nat.le_of_lt hh)]
  refine ⟨rfl, by omega, arr_newLength (by omega) (by omega) (by omega) (by omega) (by omega) ?_⟩
  conv => whnf
  have eN : cap + max (k - cap) (cap + 2) = max k (2 * cap + 2) := by omega
  rw [eN]
  refine ⟨fun _ => ?_, fun hh => absurd (by simp (disch := omega) only [cst, ne_eq, nI_add, nI_ltI, nI_leI, nI_eq]; omega) hh⟩
  conv => whnf
  refine ⟨_, h1, _, rfl, _, rfl, ?_⟩
  conv => whnf
  refine ⟨trivial, ?_⟩
  conv => whnf
  simp only [shr0, shl0]
  refine ⟨_, h1, _, rfl, _, rfl, ?_⟩
  conv => whnf
  simp only [shr0, shl0]
  have hcl : (chv s ++ tl).length = cap := e
  refine ⟨rfl, by omega, bytes_copyOf (w := a) h2 (by omega) (by omega) (by omega) hl fun b' g1 hnew => ?_⟩
  conv => whnf
  have hne : a ≠ b' := fun e9 => by have := hnew.1; rw [← e9, h1] at this; cases this
  have h1' : g1.2 a = some (27, [.ref b, .int (nI 0), .int m, .int (nI s.length)], some a) := by rw [hnew.2.2.2 a hne]; exact h1
  refine ⟨_, _, _, h1', rfl, _, rfl, by simp, trivial, fun g2 hput => ?_⟩
  conv => whnf
  refine ⟨trivial, hQ2 g2 ?_ ?_⟩
  · refine ⟨b', tl ++ List.replicate (max k (2 * cap + 2) - cap) (.int (nI 0)), m, hput.2.1, ?_, ?_, h4, by omega⟩
    · rw [hput.2.2 b' (Ne.symm hne), hnew.2.2.1, hcl, List.append_assoc]
    · rw [List.length_append, List.length_replicate]; omega
  · exact (Fr.new hnew).trans (Fr.put (S := fun w => w = a) h1' hput (Or.inl rfl)) (fun w hw => Or.inl hw)
/-- what an appended sign costs -/
def grw (cap k : Nat) : Nat := if cap < k then 5 + max k (2 * cap + 2) else 0
def ncap (cap k : Nat) : Nat := if cap < k then max k (2 * cap + 2) else cap
theorem sb_ensure' {cap k : Nat} (h : SB g a s cap) (hk : k < 2 ^ 19) (hd : 3 ≤ d) (hl : g.1 + grw cap k ≤ LIM) (hQ : ∀ g', SB g' a s (ncap cap k) → Fr (fun w => w = a) (grw cap k) g g' → Q none g') : Runs E 519 [.ref a, .int (nI k)] g d Q X := by
  refine sb_ensure h hk hd (fun hc => ?_) (fun hc => ?_) (fun hc g' h1 h2 => ?_)
  · rw [grw, if_pos hc] at hl; omega
  · exact hQ g (by rw [ncap, if_neg (by omega)]; exact h) Fr.refl
  · exact hQ g' (by rw [ncap, if_pos hc]; exact h1) (by rw [grw, if_pos hc]; exact h2)
theorem sb_appendC4 {cap c : Nat} (h : SB g a s cap) (hc : c < 128) (hk : s.length + 1 < 2 ^ 19) (hd : 4 ≤ d) (hl : g.1 + grw cap (s.length + 1) ≤ LIM) (hQ : ∀ g', SB g' a (s ++ [c]) (ncap cap (s.length + 1)) → Fr (fun w => w = a) (grw cap (s.length + 1)) g g' → Q (some (.ref a)) g') : Runs E 89 [.ref a, .int (nI c)] g d Q X := by
  have h0 := h
  obtain ⟨b, tl, m, h1, h2, h3, h4, h5⟩ := h
  refine Runs_from meth_J4_append_3 (Nat.le_of_ble_eq_true rfl) (from_wp 400 meth_J4_append_3 nocut ?_)
  conv => whnf
  refine ⟨_, h1, _, rfl, _, rfl, ?_⟩
  conv => whnf
  simp only [cst, nI_add]
  refine ⟨_, h1, _, rfl, rfl, by omega, sb_ensure' h0 hk (by omega) hl fun g1 hS1 hF1 => ?_⟩
  conv => whnf
  have hS0 := hS1
  obtain ⟨b, tl, m, h1, h2, h3, h4, h5⟩ := hS1
  refine ⟨_, h1, _, rfl, rfl, by omega, sb_isLatin1 hS0 ?_⟩
  conv => whnf
  refine ⟨fun hh => absurd hh (by decide +kernel), fun _ => ?_⟩
  conv => whnf
  refine ⟨rfl, by omega, ?_⟩
  refine Runs_from meth_J18_canEncode (Nat.le_of_ble_eq_true rfl) (from_wp 400 meth_J18_canEncode nocut ?_)
  conv => whnf
  refine ⟨fun hh => absurd hh (by simp (disch := omega) only [cst, ne_eq, nI_add, nI_ltI, nI_leI, nI_eq]; omega), fun _ => ?_⟩
  conv => whnf
  refine ⟨Or.inr rfl, ?_⟩
  conv => whnf
  refine ⟨fun hh => absurd hh (by decide +kernel), fun _ => ?_⟩
  conv => whnf
  refine ⟨_, h1, _, rfl, _, rfl, ?_⟩
  conv => whnf
  refine ⟨_, h1, _, rfl, _, rfl, ?_⟩
  conv => whnf
  refine ⟨_, _, _, h1, rfl, _, rfl, by simp, trivial, fun g2 hp2 => ?_⟩
  conv => whnf
  have hcap : s.length + 1 ≤ ncap cap (s.length + 1) := by unfold ncap; split <;> omega
  cases tl with
  | nil => simp only [List.length_nil] at h3; omega
  | cons t0 tl =>
    have hne : b ≠ a := fun e => by rw [e, h1] at h2; cases h2
    have h2' : g2.2 b = some (100, chv s ++ t0 :: tl, some a) := by rw [hp2.2.2 b hne]; exact h2
    refine ⟨_, _, _, h2', Or.inl ⟨rfl, by rw [i2b_c hc]; exact nrwB hc⟩, s.length, rfl, by omega, by simp [chv_len], fun g3 hp3 => ?_⟩
    conv => whnf
    refine ⟨trivial, hQ g3 ?_ ?_⟩
    · refine ⟨b, tl, m, ?_, ?_, ?_, asc7_snoc h4 hc, h5⟩
      · rw [hp3.2.2 a (Ne.symm hne), hp2.2.1, List.length_append, ← nI_add]; rfl
      · rw [hp3.2.1, i2b_c hc, chv_snoc]
      · rw [List.length_append]; simp only [List.length_cons, List.length_nil] at h3 ⊢; omega
    · have f2 := Fr.put (S := fun w => w = a) h1 hp2 (Or.inl rfl)
      have f3 := Fr.put (S := fun w => w = a) h2' hp3 (Or.inl rfl)
      exact (hF1.trans f2 fun w hw => Or.inl hw).trans f3 fun w hw => Or.inl hw
theorem sb_appendC {cap c : Nat} (h : SB g a s cap) (hc : c < 128) (hk : s.length + 1 < 2 ^ 19) (hd : 5 ≤ d) (hl : g.1 + grw cap (s.length + 1) ≤ LIM) (hQ : ∀ g', SB g' a (s ++ [c]) (ncap cap (s.length + 1)) → Fr (fun w => w = a) (grw cap (s.length + 1)) g g' → Q (some (.ref a)) g') : Runs E 382 [.ref a, .int (nI c)] g d Q X := by
  have h0 := h
  obtain ⟨b, tl, m, h1, h2, h3, h4, h5⟩ := h
  refine Runs_from meth_J5_append_3 (Nat.le_of_ble_eq_true rfl) (from_wp 400 meth_J5_append_3 nocut ?_)
  conv => whnf
  refine ⟨⟨_, h1, Nat.le_of_ble_eq_true rfl⟩, rfl, by omega, sb_appendC4 h0 hc hk (by omega) hl fun g1 hS1 hF1 => ?_⟩
  conv => whnf
  exact ⟨trivial, hQ g1 hS1 hF1⟩
end SB
