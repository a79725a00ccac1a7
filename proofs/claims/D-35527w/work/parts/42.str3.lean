/-! String: parts, signs, made anew -/
section STR3
variable {E : Ev} {g : Hp} {a b d : Nat} {s t : List Nat} {Q : Post} {X : XPost}
theorem bytes_range {b i n w : Nat} {fs : List Value} {o : Option Nat} (hb : g.2 b = some (100, fs, o)) (hin : i + n ≤ fs.length) (hn : 0 < n) (hlen : fs.length < 2 ^ 25) (hd : 4 ≤ d) (hL : g.1 + 5 + n ≤ LIM) (hQ : ∀ b' g', New g g' b' (100, (fs.drop i).take n, some w) n → Q (some (.ref b')) g') : Runs E 37 [.ref b, .int (nI i), .int (nI (i + n))] g d Q X := by
  by_cases h0 : i = 0
  · subst h0
    rw [Nat.zero_add]
    exact bytes_range0 hb (by omega) hlen hd hL fun b' g' hn => hQ b' g' (by rw [List.drop_zero]; exact hn)
  refine Runs_from meth_J16_copyOfRange (Nat.le_of_ble_eq_true rfl) (from_wp 400 meth_J16_copyOfRange nocut ?_)
  conv => whnf
  refine ⟨fun _ => ?_, fun hh => absurd (fun h => h0 ((nI_eq (by omega) (by omega)).mp h)) hh⟩
  conv => whnf
  refine ⟨rfl, by omega, bytes_copyOfRange (w := w) hb rfl hin hlen (by omega) hL (Or.inl hn) fun b' g' hnew => ?_⟩
  conv => whnf
  exact ⟨trivial, hQ b' g' hnew⟩
theorem l1_newString {b i n : Nat} {fs : List Value} {o : Option Nat} (hb : g.2 b = some (100, fs, o)) (hs : (fs.drop i).take n = chv s) (hl : s.length = n) (h7 : asc7 s) (hin : i + n ≤ fs.length) (hlen : fs.length < 2 ^ 20) (hG : GL E g) (hd : 6 ≤ d) (hL : g.1 + 14 + n ≤ LIM) (hQ : ∀ a' g', Str g' a' s → Fr (fun _ => False) (14 + n) g g' → Q (some (.ref a')) g') : Runs E 85 [.ref b, .int (nI i), .int (nI n)] g d Q X := by
  by_cases h0 : n = 0
  · refine Runs_from meth_J18_newString (Nat.le_of_ble_eq_true rfl) (from_wp 400 meth_J18_newString nocut ?_)
    conv => whnf
    subst h0
    refine ⟨fun hh => absurd hh (fun h => h rfl), fun _ => ?_⟩
    conv => whnf
    have hs0 : s = [] := List.length_eq_zero_iff.mp hl
    subst hs0
    exact ⟨trivial, hQ _ g (hG.lit 1 rfl) Fr.refl⟩
  refine Runs.post_ghost ?_
  refine Runs_from meth_J18_newString (Nat.le_of_ble_eq_true rfl) (from_wp 400 meth_J18_newString nocut ?_)
  conv => whnf
  refine ⟨fun _ => ?_, fun hh => absurd (fun h => h0 ((nI_eq (by omega) (by omega)).mp h)) hh⟩
  conv => whnf
  refine ⟨by show g.1 + 5 + 4 ≤ LIM; omega, fun a' ha' => ⟨a', fun g1 hnew => ?_⟩⟩
  conv => whnf
  have h1 := hnew.2.2.1
  have hg1 : g1.1 = g.1 + 5 + 4 := hnew.2.1
  have hb1 := (hnew.2.2.2 _ (ne_new ha' hb)).trans hb
  simp only [nI_add]
  refine ⟨rfl, by omega, bytes_range (w := a') hb1 hin (by omega) (by omega) (by omega) (by omega) fun b' g2 hn2 => ?_⟩
  conv => whnf
  have h1 := (hn2.2.2.2 _ (ne_new hn2.1 h1)).trans h1
  have hb2 := hn2.2.2.1
  have hF : Fr (fun w => w = a') (5 + n) g1 g2 := Fr.new hn2
  refine ⟨⟨_, h1, Nat.le_of_ble_eq_true rfl⟩, rfl, by omega, ?_⟩
  refine Runs_from meth_J6_init_3 (Nat.le_of_ble_eq_true rfl) (from_wp 400 meth_J6_init_3 nocut ?_)
  conv => whnf
  refine ⟨rfl, by omega, ?_⟩
  conv => whnf
  have hF0 := hF
  refine ⟨_, _, _, h1, rfl, _, rfl, by simp, trivial, fun g3 hp3 => ?_⟩
  conv => whnf
  have h3 := hp3.2.1
  have hb3 := (hp3.2.2 _ (ne_tag h1 hb2 rfl)).trans hb2
  have hF := hF.trans (Fr.put (S := fun w => w = a') h1 hp3 (Or.inl rfl)) (fun w hw => Or.inl hw)
  refine ⟨_, _, _, h3, rfl, _, rfl, by simp, nrwB (n := 0) (by omega), fun g4 hp4 => ?_⟩
  conv => whnf
  have h4 := hp4.2.1
  have hb4 := (hp4.2.2 _ (ne_tag h3 hb3 rfl)).trans hb3
  have hF := hF.trans (Fr.put (S := fun w => w = a') h3 hp4 (Or.inl rfl)) (fun w hw => Or.inl hw)
  refine ⟨trivial, ?_⟩
  conv => whnf
  refine ⟨trivial, frzG g4 (fun w => w = a'), frzG_rlb _ _, hQ a' _ ?_ ?_⟩
  · refine ⟨b', .int (nI 0), .int (nI 0), frzG_at h4 rfl, ?_, h7, by omega⟩
    rw [← hs]
    exact frzG_at hb4 rfl
  · exact (Fr.new0 (S := fun _ => False) hnew (hF.trans Fr.frzG fun w hw => Or.inl hw)).weak (fun w (hw : False) => hw.elim) (by show 5 + 4 + _ ≤ _; omega)
theorem sub_take {s : List Nat} {tl : List Value} {i n : Nat} (h : i + n ≤ s.length) : ((chv s ++ tl).drop i).take n = chv ((s.drop i).take n) := by
  rw [List.drop_append_of_le_length (by rw [chv_len]; omega), List.take_append_of_le_length (by rw [List.length_drop, chv_len]; omega)]
  simp [chv, List.map_drop, List.map_take]
theorem asc7_sub {s : List Nat} {i n : Nat} (h : asc7 s) : asc7 ((s.drop i).take n) := fun c hc => h c (List.mem_of_mem_drop (List.mem_of_mem_take hc))
theorem str_substring {i n : Nat} (h : Str g a s) (hin : i + n ≤ s.length) (hG : GL E g) (hd : 8 ≤ d) (hL : g.1 + 14 + n ≤ LIM) (hQ : ∀ a' g', Str g' a' ((s.drop i).take n) → Fr (fun _ => False) (14 + n) g g' → Q (some (.ref a')) g') : Runs E 515 [.ref a, .int (nI i), .int (nI (i + n))] g d Q X := by
  obtain ⟨b1, u1, v1, p1, p2, p3, p4⟩ := id h
  have e1 : (chv s).length = s.length := chv_len s
  have fin : ∀ Q' : Post, ∀ X' : XPost, (∀ a' g', Str g' a' ((s.drop i).take n) → Fr (fun _ => False) (14 + n) g g' → Q' (some (.ref a')) g') → Runs E 85 [.ref b1, .int (nI i), .int (nI n)] g (d - 1) Q' X' := by
    intro Q' X' hQ'
    have := sub_take (tl := []) hin
    rw [List.append_nil] at this
    exact l1_newString p2 this (by rw [List.length_take, List.length_drop]; omega) (asc7_sub p3) (by omega) (by omega) hG (by omega) hL hQ'
  have tailP : ∀ k3 : Int32, k3 = nI s.length → From E 515 "java/lang/String" false d Q X 22 [some (.inl (.ref a)), some (.inl (.int (nI i))), some (.inl (.int (nI (i + n)))), some (.inl (.int k3)), none] [] g := by
    intro k3 _
    refine from_wp 400 meth_J6_substring nocut ?_
    conv => whnf
    simp only [nI_sub (Nat.le_add_right i n), Nat.add_sub_cancel_left]
    refine ⟨_, p1, _, rfl, rfl, by omega, str_isLatin1 h ?_⟩
    conv => whnf
    refine ⟨fun hh => absurd hh (by decide +kernel), fun _ => ?_⟩
    conv => whnf
    refine ⟨_, p1, _, rfl, _, rfl, ?_⟩
    conv => whnf
    refine ⟨rfl, by omega, fin _ _ fun a' g' q1 q2 => ?_⟩
    conv => whnf
    exact ⟨trivial, hQ a' g' q1 q2⟩
  refine Runs_from meth_J6_substring (Nat.le_of_ble_eq_true rfl) (from_wp 400 meth_J6_substring (selfcut 22) ?_)
  conv => whnf
  refine ⟨_, p1, _, rfl, rfl, by omega, str_length h (by omega) ?_⟩
  conv => whnf
  refine ⟨rfl, by omega, ?_⟩
  refine Runs_from meth_J6_checkBoundsBeginEnd (Nat.le_of_ble_eq_true rfl) (from_wp 400 meth_J6_checkBoundsBeginEnd nocut ?_)
  conv => whnf
  refine ⟨?_, fun y => ?_⟩
  all_goals
    refine ⟨rfl, by omega, ?_⟩
    refine Runs_from meth_J17_checkFromToIndex (Nat.le_of_ble_eq_true rfl) (from_wp 400 meth_J17_checkFromToIndex nocut ?_)
    conv => whnf
    refine ⟨fun hh => absurd hh (by simp (disch := omega) only [cst, ne_eq, nI_add, nI_ltI, nI_leI, nI_eq]; omega), fun _ => ?_⟩
    conv => whnf
    refine ⟨fun hh => absurd hh (by simp (disch := omega) only [cst, ne_eq, nI_add, nI_ltI, nI_leI, nI_eq]; omega), fun _ => ?_⟩
    conv => whnf
    refine ⟨fun _ => ?_, fun hh => absurd (by simp (disch := omega) only [cst, ne_eq, nI_add, nI_ltI, nI_leI, nI_eq]; omega) hh⟩
    conv => whnf
    refine ⟨trivial, ?_⟩
    conv => whnf
    refine ⟨trivial, ?_⟩
    conv => whnf
    refine ⟨fun hh => ?_, fun hh => ?_⟩
    · conv => whnf
      exact ⟨trivial, tailP _ rfl⟩
    · conv => whnf
      refine ⟨fun h2 => ?_, fun h2 => ?_⟩
      · conv => whnf
        exact ⟨trivial, tailP _ rfl⟩
      · have h2 := Decidable.not_not.mp h2
        have hh := Decidable.not_not.mp hh
        rw [nI_eq (by omega) (by omega)] at h2
        rw [nI_eq (by omega) (by omega)] at hh
        conv => whnf
        refine ⟨trivial, hQ a g ?_ Fr.refl⟩
        rw [hh, List.drop_zero, List.take_of_length_le (by omega)]
        exact h
end STR3
