/-! Integer.toString, StringBuilder.append(int) -/
theorem neg_ltI {a b : Nat} (ha : a < 2 ^ 31) (hb : b < 2 ^ 31) : - nI a < - nI b ↔ b < a := by
  rw [Int32.lt_iff_toInt_lt, neg_toInt ha, neg_toInt hb]; omega
theorem neg_leI {a b : Nat} (ha : a < 2 ^ 31) (hb : b < 2 ^ 31) : - nI a ≤ - nI b ↔ b ≤ a := by
  rw [Int32.le_iff_toInt_le, neg_toInt ha, neg_toInt hb]; omega
theorem dec1 {n : Nat} (h : n < 10) : decN n = [48 + n] := by
  show digs 12 n = _
  rw [digs, if_pos h]
theorem dec2 {n : Nat} (h : 10 ≤ n) (h2 : n < 100) : decN n = [48 + n / 10, 48 + n % 10] := by
  show digs 12 n = _
  rw [digs, if_neg (by omega), digs, if_pos (by omega)]
  rfl
theorem dec3 {n : Nat} (h : 100 ≤ n) (h2 : n < 1000) : decN n = [48 + n / 100, 48 + n % 100 / 10, 48 + n % 100 % 10] := by
  show digs 12 n = _
  rw [digs, if_neg (by omega), digs, if_neg (by omega), digs, if_pos (by omega)]
  have e1 : n / 10 / 10 = n / 100 := by omega
  have e2 : n / 10 % 10 = n % 100 / 10 := by omega
  have e3 : n % 10 = n % 100 % 10 := by omega
  rw [e1, e2, e3]
  rfl
theorem dec4 {n : Nat} (h : 1000 ≤ n) (h2 : n < 10000) : decN n = [48 + n / 100 / 10, 48 + n / 100 % 10, 48 + n % 100 / 10, 48 + n % 100 % 10] := by
  show digs 12 n = _
  rw [digs, if_neg (by omega), digs, if_neg (by omega), digs, if_neg (by omega), digs, if_pos (by omega)]
  have e0 : n / 10 / 10 / 10 = n / 100 / 10 := by omega
  have e1 : n / 10 / 10 = n / 100 := by omega
  have e2 : n / 10 % 10 = n % 100 / 10 := by omega
  have e3 : n % 10 = n % 100 % 10 := by omega
  rw [e0, e1, e2, e3]
  rfl
theorem dec_len {n : Nat} (h : n < 10000) : 1 ≤ (decN n).length ∧ (decN n).length ≤ 4 := by
  by_cases h1 : n < 10
  · rw [dec1 h1]; simp
  by_cases h2 : n < 100
  · rw [dec2 (by omega) h2]; simp
  by_cases h3 : n < 1000
  · rw [dec3 (by omega) h3]; simp
  · rw [dec4 (by omega) h]; simp
theorem dec_asc {n : Nat} (h : n < 10000) : asc7 (decN n) := by
  by_cases h1 : n < 10
  · rw [dec1 h1]; intro c hc; simp at hc; omega
  by_cases h2 : n < 100
  · rw [dec2 (by omega) h2]; intro c hc; simp at hc; omega
  by_cases h3 : n < 1000
  · rw [dec3 (by omega) h3]; intro c hc; simp at hc; omega
  · rw [dec4 (by omega) h]; intro c hc; simp at hc; omega
/-- a text written into an array from k on -/
def wr (fs : List Value) (k : Nat) (l : List Nat) : List Value := fs.take k ++ chv l ++ fs.drop (k + l.length)
theorem wr_nil (fs : List Value) (k : Nat) : wr fs k [] = fs := by simp [wr, chv]
theorem wr_len {fs : List Value} {k : Nat} {l : List Nat} (h : k + l.length ≤ fs.length) : (wr fs k l).length = fs.length := by
  unfold wr
  rw [List.length_append, List.length_append, List.length_take, chv_len, List.length_drop]
  omega
theorem wr_set {fs : List Value} {k c : Nat} {l : List Nat} (h : k + 1 + l.length ≤ fs.length) : (wr fs (k + 1) l).set k (.int (nI c)) = wr fs k (c :: l) := by
  have e : fs.take (k + 1) = fs.take k ++ [fs[k]'(by omega)] := List.take_succ_eq_append_getElem (by omega)
  have hl : (fs.take k).length = k := by rw [List.length_take]; omega
  unfold wr
  rw [e, List.append_assoc, List.append_assoc, List.set_append_right _ _ (by omega), hl, Nat.sub_self]
  have e2 : k + (c :: l).length = k + 1 + l.length := by rw [List.length_cons]; omega
  rw [e2, List.append_assoc]
  rfl
theorem Put.tr {g g1 g2 : Hp} {a : Nat} {c c' : Cel} (h : Put g g1 a c) (h' : Put g1 g2 a c') : Put g g2 a c' := ⟨h'.1.trans h.1, h'.2.1, fun b hb => (h'.2.2 b hb).trans (h.2.2 b hb)⟩
theorem Put.back {g g' : Hp} {a : Nat} {c : Cel} (h : Put g g' a c) {x : Nat} (hx : g'.2 x = none) : g.2 x = none := by
  by_cases e : x = a
  · subst e; rw [h.2.1] at hx; cases hx
  · rw [← h.2.2 x e]; exact hx
section INT2
variable {E : Ev} {g : Hp} {a b d : Nat} {s t : List Nat} {Q : Post} {X : XPost}
theorem int_stringSize {z : Int} (hz : z.natAbs < 10000) (hQ : Q (some (.int (nI (decZ z).length))) g) : Runs E 42 [.int (zI z)] g d Q X := by
  have c2 : cst [10] * cst [0, 10] = - nI 100 := by decide +kernel
  have c3 : cst [10] * - nI 100 = - nI 1000 := by decide +kernel
  have c4 : cst [10] * - nI 1000 = - nI 10000 := by decide +kernel
  have tail : ∀ n k, n < 10000 → k ≤ 1 → Q (some (.int (nI ((decN n).length + k)))) g → From E 42 "java/lang/Integer" false d Q X 11 [some (.inl (.int (- nI n))), some (.inl (.int (nI k))), none, none] [] g := by
    intro n k hn hk hq
    refine from_wp 400 meth_J20_stringSize nocut ?_
    conv => whnf
    refine ⟨fun hh => absurd hh (by decide +kernel), fun _ => ?_⟩
    conv => whnf
    refine ⟨fun hh => ?_, fun hh => ?_⟩
    all_goals rw [show cst [0, 10] = - nI 10 from rfl, neg_leI (by omega) (by omega)] at hh
    case refine_2 =>
      conv => whnf
      simp only [cst, nI_add]
      rw [dec1 (by omega)] at hq
      exact ⟨trivial, hq⟩
    conv => whnf
    rw [c2]
    refine ⟨fun hh => absurd hh (by decide +kernel), fun _ => ?_⟩
    conv => whnf
    refine ⟨fun h2 => ?_, fun h2 => ?_⟩
    all_goals rw [neg_leI (by omega) (by omega)] at h2
    case refine_2 =>
      conv => whnf
      simp only [cst, nI_add]
      rw [dec2 (by omega) (by omega)] at hq
      exact ⟨trivial, hq⟩
    conv => whnf
    rw [c3]
    refine ⟨fun hh => absurd hh (by decide +kernel), fun _ => ?_⟩
    conv => whnf
    refine ⟨fun h3 => ?_, fun h3 => ?_⟩
    all_goals rw [neg_leI (by omega) (by omega)] at h3
    case refine_2 =>
      conv => whnf
      simp only [cst, nI_add]
      rw [dec3 (by omega) (by omega)] at hq
      exact ⟨trivial, hq⟩
    conv => whnf
    rw [c4]
    refine ⟨fun hh => absurd hh (by decide +kernel), fun _ => ?_⟩
    conv => whnf
    refine ⟨fun h4 => ?_, fun h4 => ?_⟩
    all_goals rw [neg_leI (by omega) (by omega)] at h4
    case refine_2 =>
      conv => whnf
      simp only [cst, nI_add]
      rw [dec4 (by omega) (by omega)] at hq
      exact ⟨trivial, hq⟩
    omega
  unfold decZ at hQ
  refine Runs_from meth_J20_stringSize (Nat.le_of_ble_eq_true rfl) (from_wp 400 meth_J20_stringSize (selfcut 11) ?_)
  conv => whnf
  by_cases hs : z < 0
  · rw [if_pos hs, List.length_cons] at hQ
    have e : zI z = - nI z.natAbs := if_pos hs
    rw [e]
    refine ⟨fun _ => ?_, fun hh => absurd (by rw [Int32.lt_iff_toInt_lt, neg_toInt (by omega)]; show - (z.natAbs : Int) < 0; omega) hh⟩
    conv => whnf
    exact ⟨trivial, tail z.natAbs 1 (by omega) (by omega) hQ⟩
  · rw [if_neg hs] at hQ
    have e : zI z = nI z.natAbs := if_neg hs
    rw [e]
    refine ⟨fun hh => absurd hh (by simp (disch := omega) only [cst, ne_eq, nI_add, nI_ltI, nI_leI, nI_eq]; omega), fun _ => ?_⟩
    conv => whnf
    exact ⟨trivial, tail z.natAbs 0 (by omega) (by omega) hQ⟩
theorem D1T_at {r : Nat} (h : r < 100) : D1T[r]? = some (48 + r % 10) := by
  have h5 : ∀ r : Fin 100, D1T[r.val]? = some (48 + r.val % 10) := by decide +kernel
  exact h5 ⟨r, h⟩
theorem D10T_at {r : Nat} (h : r < 100) : D10T[r]? = some (48 + r / 10) := by
  have h5 : ∀ r : Fin 100, D10T[r.val]? = some (48 + r.val / 10) := by decide +kernel
  exact h5 ⟨r, h⟩
theorem gc_r {n : Nat} (h : n < 2 ^ 20) : (- nI (n / 100)) * nI 100 - (- nI n) = nI (n % 100) := by
  have e : nI n = nI (n / 100) * nI 100 + nI (n % 100) := by
    rw [show nI (n / 100) * nI 100 = nI (n / 100 * 100) from (Int32.ofNat_mul _ _).symm, nI_add]
    congr 1
    omega
  rw [e]
  generalize nI (n / 100) = x
  generalize nI (n % 100) = y
  generalize nI 100 = c
  grind
theorem int_getChars {z : Int} {fs : List Value} {k w : Nat} (hz : z.natAbs < 10000) (hb : g.2 b = some (100, fs, some w)) (hk : k + (decZ z).length ≤ fs.length) (hf : fs.length < 2 ^ 20) (hG : GL E g) (hQ : ∀ g', Put g g' b (100, wr fs k (decZ z), some w) → Q (some (.int (nI k))) g') : Runs E 43 [.int (zI z), .int (nI (k + (decZ z).length)), .ref b] g d Q X := by
  have hD1 := hG.2.2.2.2.2.2.1
  have hD10 := hG.2.2.2.2.2.2.2.1
  have nb : ∀ x : Nat, g.2 x = some (100, chv D1T, none) ∨ g.2 x = some (100, chv D10T, none) → x ≠ b := by
    intro x h e
    subst e
    rcases h with h | h <;> rw [h] at hb <;> cases hb
  have tail2 : ∀ (q e sg : Nat) (l : List Nat) (g1 : Hp) (ix : Int32) (L3 L4 : Sl), q < 100 → sg ≤ 1 → e = k + sg + (decN q).length → e + l.length ≤ fs.length → (L3 = none ∨ ∃ x, L3 = some (.inl (.int x))) → (L4 = none ∨ ∃ x, L4 = some (.inl (.int x))) → (if sg = 1 then [45] else []) ++ decN q ++ l = decZ z → Put g g1 b (100, wr fs e l, some w) → From E 43 "java/lang/Integer" false d Q X 72 [some (.inl (.int (- nI q))), some (.inl (.int ix)), some (.inl (.ref b)), L3, L4, some (.inl (.int (nI e))), some (.inl (.int (nI sg)))] [] g1 := by
    intro q e sg l g1 ix L3 L4 hq hsg he hel hL3 hL4 hl hp
    have o1 : g1.2 (sa E 9) = some (100, chv D1T, none) := (hp.2.2 _ (nb _ (Or.inl hD1))).trans hD1
    have o10 : g1.2 (sa E 10) = some (100, chv D10T, none) := (hp.2.2 _ (nb _ (Or.inr hD10))).trans hD10
    have fin3 : ∀ (e' : Nat) (l' : List Nat) (g2 : Hp), e' = k + sg → e' + l'.length ≤ fs.length → (if sg = 1 then [45] else []) ++ l' = decZ z → Put g g2 b (100, wr fs e' l', some w) → From E 43 "java/lang/Integer" false d Q X 104 [some (.inl (.int (- nI q))), some (.inl (.int ix)), some (.inl (.ref b)), L3, L4, some (.inl (.int (nI e'))), some (.inl (.int (nI sg)))] [] g2 := by
      intro e' l' g2 he' hel' hl' hp'
      rcases hL3 with rfl | ⟨x3, rfl⟩ <;> rcases hL4 with rfl | ⟨x4, rfl⟩
      all_goals
        refine from_wp 400 meth_J20_getChars nocut ?_
        conv => whnf
        have hsg : sg = 0 ∨ sg = 1 := by omega
        rcases hsg with rfl | rfl
        · refine ⟨fun _ => ?_, fun hh => absurd (by decide +kernel) hh⟩
          conv => whnf
          rw [if_neg (by omega), List.nil_append] at hl'
          subst hl'
          have : e' = k := by omega
          subst this
          exact ⟨trivial, hQ g2 hp'⟩
        · refine ⟨fun hh => absurd hh (by decide +kernel), fun _ => ?_⟩
          conv => whnf
          simp only [cst, nI_sub (show 1 ≤ e' by omega)]
          rw [if_pos rfl] at hl'
          have e9 : e' = k + 1 := by omega
          subst e9
          refine ⟨_, _, _, hp'.2.1, Or.inl ⟨rfl, nrwB (n := 45) (by omega)⟩, k, by rw [Nat.add_sub_cancel], by omega, by rw [wr_len (by omega)]; omega, fun g3 hp3 => ?_⟩
          conv => whnf
          rw [wr_set (by omega)] at hp3
          rw [Nat.add_sub_cancel]
          refine ⟨trivial, hQ g3 ?_⟩
          rw [← hl']
          exact hp'.tr hp3
    have hL3' := hL3
    have hL4' := hL4
    rcases hL3 with rfl | ⟨x3, rfl⟩ <;> rcases hL4 with rfl | ⟨x4, rfl⟩
    all_goals
      refine from_wp 400 meth_J20_getChars (selfcut 104) ?_
      conv => whnf
      have he0 : 1 ≤ (decN q).length := (dec_len (by omega)).1
      simp only [Int32.neg_neg]
      refine ⟨_, o1, Or.inl rfl, q, rfl, by omega, _, nth_chv (D1T_at hq), ?_⟩
      conv => whnf
      simp only [cst, nI_sub (show 1 ≤ e by omega)]
      refine ⟨_, _, _, hp.2.1, Or.inl ⟨rfl, nrwB (by omega)⟩, e - 1, rfl, by omega, by rw [wr_len hel]; omega, fun g2 hp2 => ?_⟩
      conv => whnf
      obtain ⟨e1, rfl⟩ : ∃ e1, e = e1 + 1 := ⟨e - 1, by omega⟩
      rw [Nat.add_sub_cancel, wr_set (by omega)] at hp2
      rw [Nat.add_sub_cancel]
      have hpp := hp.tr hp2
      refine ⟨fun hh => ?_, fun hh => ?_⟩
      · rw [show cst [0, 9] = - nI 9 from rfl, neg_leI (by omega) (by omega)] at hh
        conv => whnf
        rw [dec1 (by omega)] at he hl
        have : q % 10 = q := by omega
        rw [this] at hpp
        exact ⟨trivial, fin3 e1 ((48 + q) :: l) g2 (by simp at he; omega) (by simp; omega) (by rw [← hl]; simp) hpp⟩
      · rw [show cst [0, 9] = - nI 9 from rfl, neg_leI (by omega) (by omega)] at hh
        conv => whnf
        rw [dec2 (by omega) hq] at he hl
        simp at he
        simp only [Int32.neg_neg]
        have o10b : g2.2 (sa E 10) = some (100, chv D10T, none) := (hpp.2.2 _ (nb _ (Or.inr hD10))).trans hD10
        refine ⟨_, o10b, Or.inl rfl, q, rfl, by omega, _, nth_chv (D10T_at hq), ?_⟩
        conv => whnf
        simp only [cst, nI_sub (show 1 ≤ e1 by omega)]
        obtain ⟨e2, rfl⟩ : ∃ e2, e1 = e2 + 1 := ⟨e1 - 1, by omega⟩
        refine ⟨_, _, _, hpp.2.1, Or.inl ⟨rfl, nrwB (by omega)⟩, e2, by rw [Nat.add_sub_cancel], by omega, by rw [wr_len (by simp; omega)]; omega, fun g3 hp3 => ?_⟩
        conv => whnf
        rw [wr_set (by simp; omega)] at hp3
        rw [Nat.add_sub_cancel]
        exact ⟨trivial, fin3 e2 ((48 + q / 10) :: (48 + q % 10) :: l) g3 (by omega) (by simp; omega) (by rw [← hl]; simp) (hpp.tr hp3)⟩
  have tail1 : ∀ (n sg : Nat) (ix : Int32), n < 10000 → sg ≤ 1 → (if sg = 1 then [45] else []) ++ decN n = decZ z → k + (decZ z).length = k + sg + (decN n).length → From E 43 "java/lang/Integer" false d Q X 22 [some (.inl (.int (- nI n))), some (.inl (.int ix)), some (.inl (.ref b)), none, none, some (.inl (.int (nI (k + (decZ z).length)))), some (.inl (.int (nI sg)))] [] g := by
    intro n sg ix hn hsg hl he
    refine from_wp 400 meth_J20_getChars (selfcut 72) ?_
    conv => whnf
    refine ⟨fun hh => ?_, fun hh => ?_⟩
    · rw [show cst [0, 100] = - nI 100 from rfl, neg_ltI (by omega) (by omega)] at hh
      conv => whnf
      exact ⟨trivial, tail2 n _ sg [] g ix none none hh hsg he (by simpa using hk) (Or.inl rfl) (Or.inl rfl) (by rw [List.append_nil]; exact hl) (by rw [wr_nil]; exact ⟨rfl, hb, fun _ _ => rfl⟩)⟩
    · rw [show cst [0, 100] = - nI 100 from rfl, neg_ltI (by omega) (by omega)] at hh
      have hr : n % 100 < 100 := Nat.mod_lt _ (by omega)
      have hl2 : decN n = decN (n / 100) ++ [48 + n % 100 / 10, 48 + n % 100 % 10] := by
        by_cases h3 : n < 1000
        · rw [dec3 (by omega) h3, dec1 (by omega)]; rfl
        · rw [dec4 (by omega) hn, dec2 (by omega) (by omega)]; rfl
      have hll : (decN n).length = (decN (n / 100)).length + 2 := by rw [hl2, List.length_append]; rfl
      have hd1 := (dec_len (n := n / 100) (by omega)).1
      conv => whnf
      simp only [cst, div100 (show n < 2 ^ 20 by omega), gc_r (show n < 2 ^ 20 by omega), nI_sub (show 1 ≤ k + (decZ z).length by omega)]
      refine ⟨by decide +kernel, ?_⟩
      conv => whnf
      simp only [cst, div100 (show n < 2 ^ 20 by omega), gc_r (show n < 2 ^ 20 by omega), nI_sub (show 1 ≤ k + (decZ z).length by omega)]
      refine ⟨_, hD1, Or.inl rfl, n % 100, rfl, by omega, _, nth_chv (D1T_at hr), ?_⟩
      conv => whnf
      obtain ⟨e1, he1⟩ : ∃ e1, k + (decZ z).length = e1 + 1 + 1 := ⟨k + (decZ z).length - 2, by omega⟩
      rw [he1, Nat.add_sub_cancel]
      refine ⟨_, _, _, hb, Or.inl ⟨rfl, nrwB (by omega)⟩, e1 + 1, rfl, by omega, by omega, fun g2 hp2 => ?_⟩
      conv => whnf
      have hp2 : Put g g2 b (100, wr fs (e1 + 1) [48 + n % 100 % 10], some w) := by
        rw [← wr_set (by simp; omega), wr_nil]
        exact hp2
      simp only [cst, nI_sub (show 1 ≤ e1 + 1 by omega), Nat.add_sub_cancel]
      have o10b : g2.2 (sa E 10) = some (100, chv D10T, none) := (hp2.2.2 _ (nb _ (Or.inr hD10))).trans hD10
      refine ⟨_, o10b, Or.inl rfl, n % 100, rfl, by omega, _, nth_chv (D10T_at hr), ?_⟩
      conv => whnf
      refine ⟨_, _, _, hp2.2.1, Or.inl ⟨rfl, nrwB (by omega)⟩, e1, rfl, by omega, by rw [wr_len (by simp; omega)]; omega, fun g3 hp3 => ?_⟩
      conv => whnf
      rw [wr_set (by simp; omega)] at hp3
      refine ⟨fun _ => ?_, fun hh => absurd (by show - nI 100 < - nI (n / 100); rw [neg_ltI (by omega) (by omega)]; omega) hh⟩
      conv => whnf
      refine ⟨trivial, tail2 (n / 100) e1 sg _ g3 ix _ _ (by omega) hsg (by omega) (by simp; omega) (Or.inr ⟨_, rfl⟩) (Or.inr ⟨_, rfl⟩) (by rw [← hl, hl2]; simp) (hp2.tr hp3)⟩
  have hdz := (dec_len hz).1
  by_cases hs : z < 0
  · have e : zI z = - nI z.natAbs := if_pos hs
    have e2 : decZ z = 45 :: decN z.natAbs := if_pos hs
    have e3 : (decZ z).length = (decN z.natAbs).length + 1 := by rw [e2, List.length_cons]
    have t1 := tail1 z.natAbs 1 (nI (k + (decZ z).length)) hz (by omega) (by rw [if_pos rfl, e2]; rfl) (by omega)
    rw [e]
    refine Runs_from meth_J20_getChars (Nat.le_of_ble_eq_true rfl) (from_wp 400 meth_J20_getChars (selfcut 22) ?_)
    conv => whnf
    refine ⟨fun hh => absurd hh (by rw [Int32.not_le, Int32.lt_iff_toInt_lt, neg_toInt (by omega)]; show - (z.natAbs : Int) < 0; omega), fun _ => ?_⟩
    conv => whnf
    refine ⟨fun _ => ?_, fun hh => absurd (by decide +kernel) hh⟩
    conv => whnf
    exact ⟨trivial, t1⟩
  · have e : zI z = nI z.natAbs := if_neg hs
    have e2 : decZ z = decN z.natAbs := if_neg hs
    have t1 := tail1 z.natAbs 0 (nI (k + (decZ z).length)) hz (by omega) (by rw [if_neg (by omega), e2]; rfl) (by rw [e2]; omega)
    rw [e]
    refine Runs_from meth_J20_getChars (Nat.le_of_ble_eq_true rfl) (from_wp 400 meth_J20_getChars (selfcut 22) ?_)
    conv => whnf
    refine ⟨fun _ => ?_, fun hh => absurd (by simp (disch := omega) only [cst, ne_eq, nI_add, nI_ltI, nI_leI, nI_eq]; omega) hh⟩
    conv => whnf
    refine ⟨fun hh => absurd hh (by decide +kernel), fun _ => ?_⟩
    conv => whnf
    exact ⟨trivial, t1⟩
theorem decZ_asc {z : Int} (hz : z.natAbs < 10000) : asc7 (decZ z) := by
  unfold decZ
  split
  · intro c hc
    rcases List.mem_cons.mp hc with h | h
    · omega
    · exact dec_asc hz c h
  · exact dec_asc hz
theorem decZ_len {z : Int} (hz : z.natAbs < 10000) : 1 ≤ (decZ z).length ∧ (decZ z).length ≤ 5 := by
  have := dec_len hz
  unfold decZ
  split
  · rw [List.length_cons]; omega
  · omega
theorem wr_all {fs : List Value} {l : List Nat} (h : fs.length = l.length) : wr fs 0 l = chv l := by
  unfold wr
  rw [List.take_zero, Nat.zero_add, List.drop_eq_nil_of_le (by omega)]
  simp
theorem int_toString {z : Int} (hz : z.natAbs < 10000) (hG : GL E g) (hd : 4 ≤ d) (hL : g.1 + 19 ≤ LIM) (hQ : ∀ a' g', Str g' a' (decZ z) → Fr (fun _ => False) 19 g g' → Q (some (.ref a')) g') : Runs E 115 [.int (zI z)] g d Q X := by
  have hl := decZ_len hz
  refine Runs.post_ghost ?_
  refine Runs_from meth_J20_toString (Nat.le_of_ble_eq_true rfl) (from_wp 400 meth_J20_toString nocut ?_)
  conv => whnf
  refine ⟨rfl, by omega, int_stringSize hz ?_⟩
  conv => whnf
  refine ⟨fun hh => absurd hh (by decide +kernel), fun _ => ?_⟩
  conv => whnf
  refine ⟨(decZ z).length, rfl, by omega, by omega, fun b hb => ⟨b, fun g1 hn1 => ?_⟩⟩
  conv => whnf
  have hG1 : GL E g1 := hG.fr (Fr.new (S := fun _ => False) hn1)
  have hb1 : g1.2 b = some (100, List.replicate (decZ z).length (.int (nI 0)), some b) := hn1.2.2.1
  have hgc : ∀ Q' : Post, ∀ X' : XPost, (∀ g', Put g1 g' b (100, chv (decZ z), some b) → Q' (some (.int (nI 0))) g') → Runs E 43 [.int (zI z), .int (nI (decZ z).length), .ref b] g1 (d - 1) Q' X' := by
    intro Q' X' hQ'
    have := int_getChars (E := E) (g := g1) (b := b) (d := d - 1) (Q := Q') (X := X') (z := z) (k := 0) (w := b) hz hb1 (by rw [List.length_replicate]; omega) (by rw [List.length_replicate]; omega) hG1 (fun g' hp => hQ' g' (by rw [wr_all (by rw [List.length_replicate])] at hp; exact hp))
    rw [Nat.zero_add] at this
    exact this
  refine ⟨rfl, by omega, hgc _ _ fun g2 hp2 => ?_⟩
  conv => whnf
  have hg1 : g1.1 = g.1 + 5 + (decZ z).length := hn1.2.1
  have hg2 : g2.1 = g1.1 := hp2.1
  refine ⟨by show g2.1 + 5 + 4 ≤ LIM; omega, fun a' ha' => ⟨a', fun g3 hn3 => ?_⟩⟩
  conv => whnf
  have h1 := hn3.2.2.1
  have hb3 := (hn3.2.2.2 _ (ne_new ha' hp2.2.1)).trans hp2.2.1
  refine ⟨⟨_, h1, Nat.le_of_ble_eq_true rfl⟩, rfl, by omega, ?_⟩
  refine Runs_from meth_J6_init_3 (Nat.le_of_ble_eq_true rfl) (from_wp 400 meth_J6_init_3 nocut ?_)
  conv => whnf
  refine ⟨rfl, by omega, ?_⟩
  conv => whnf
  refine ⟨_, _, _, h1, rfl, _, rfl, by simp, trivial, fun g4 hp4 => ?_⟩
  conv => whnf
  have hb4 := (hp4.2.2 _ (ne_tag h1 hb3 rfl)).trans hb3
  have hF := (Fr.put (S := fun w => w = a' ∨ w = b) h1 hp4 (Or.inl (Or.inl rfl)))
  have h1 := hp4.2.1
  refine ⟨_, _, _, h1, rfl, _, rfl, by simp, nrwB (n := 0) (by omega), fun g5 hp5 => ?_⟩
  conv => whnf
  have hb5 := (hp5.2.2 _ (ne_tag h1 hb4 rfl)).trans hb4
  have hF := hF.trans (Fr.put (S := fun w => w = a' ∨ w = b) h1 hp5 (Or.inl (Or.inl rfl))) (fun w hw => Or.inl hw)
  have h1 := hp5.2.1
  refine ⟨trivial, ?_⟩
  conv => whnf
  refine ⟨trivial, frzG g5 (fun w => w = a' ∨ w = b), frzG_rlb _ _, hQ a' _ ?_ ?_⟩
  · exact ⟨b, .int (nI 0), .int (nI 0), frzG_at h1 (Or.inl rfl), frzG_at hb5 (Or.inr rfl), decZ_asc hz, by omega⟩
  · have hF2 := ((Fr.new (S := fun w => w = a' ∨ w = b) hn3).trans hF (fun w hw => Or.inl hw)).trans Fr.frzG fun w hw => Or.inl hw
    have hF1 := (Fr.put (S := fun w => w = b) hb1 hp2 (Or.inl rfl)).trans hF2 (fun w hw => hw.elim (fun h => Or.inr (by rw [h]; exact (hp2.back ha'))) Or.inl)
    exact (Fr.new0 (S := fun _ => False) hn1 hF1).weak (fun w (hw : False) => hw.elim) (by simp only [List.length_cons, List.length_nil]; omega)
theorem str_valueOfI {z : Int} (hz : z.natAbs < 10000) (hG : GL E g) (hd : 5 ≤ d) (hL : g.1 + 19 ≤ LIM) (hQ : ∀ a' g', Str g' a' (decZ z) → Fr (fun _ => False) 19 g g' → Q (some (.ref a')) g') : Runs E 187 [.int (zI z)] g d Q X := by
  refine Runs_from meth_J6_valueOf (Nat.le_of_ble_eq_true rfl) (from_wp 400 meth_J6_valueOf nocut ?_)
  conv => whnf
  refine ⟨rfl, by omega, int_toString hz hG (by omega) hL fun a' g' q1 q2 => ?_⟩
  conv => whnf
  exact ⟨trivial, hQ a' g' q1 q2⟩
end INT2
