/-! StringBuilder: append(int), append(char[], int, int), made out of a text -/
section SB5
variable {E : Ev} {g : Hp} {a b d : Nat} {s t : List Nat} {Q : Post} {X : XPost}
theorem wr_app {s l : List Nat} {tl : List Value} : wr (chv s ++ tl) s.length l = chv (s ++ l) ++ tl.drop l.length := by
  unfold wr
  have e1 : (chv s ++ tl).take s.length = chv s := by rw [← chv_len s, List.take_left]
  have e3 : (chv s ++ tl).drop (s.length + l.length) = tl.drop l.length := by rw [← chv_len s, List.drop_length_add_append]
  rw [e1, e3]
  simp [chv]
theorem sb_appendI4 {cap : Nat} {z : Int} (h : SB g a s cap) (hz : z.natAbs < 10000) (hk : s.length + (decZ z).length < 2 ^ 19) (hG : GL E g) (hd : 5 ≤ d) (hl : g.1 + grw cap (s.length + (decZ z).length) ≤ LIM) (hQ : ∀ g', SB g' a (s ++ decZ z) (ncap cap (s.length + (decZ z).length)) → Fr (fun w => w = a) (grw cap (s.length + (decZ z).length)) g g' → Q (some (.ref a)) g') : Runs E 88 [.ref a, .int (zI z)] g d Q X := by
  have h0 := h
  obtain ⟨b, tl, m, h1, h2, h3, h4, h5⟩ := h
  refine Runs_from meth_J4_append_2 (Nat.le_of_ble_eq_true rfl) (from_wp 400 meth_J4_append_2 nocut ?_)
  conv => whnf
  refine ⟨_, h1, _, rfl, _, rfl, ?_⟩
  conv => whnf
  refine ⟨rfl, by omega, int_stringSize hz ?_⟩
  conv => whnf
  simp only [nI_add]
  refine ⟨_, h1, _, rfl, rfl, by omega, sb_ensure' h0 hk (by omega) hl fun g1 hS1 hF1 => ?_⟩
  conv => whnf
  have hS0 := hS1
  have hG1 := hG.fr hF1
  obtain ⟨b, tl, m, h1, h2, h3, h4, h5⟩ := hS1
  have hcap : s.length + (decZ z).length ≤ ncap cap (s.length + (decZ z).length) := by unfold ncap; split <;> omega
  refine ⟨_, h1, _, rfl, rfl, by omega, sb_isLatin1 hS0 ?_⟩
  conv => whnf
  refine ⟨fun hh => absurd hh (by decide +kernel), fun _ => ?_⟩
  conv => whnf
  refine ⟨_, h1, _, rfl, _, rfl, ?_⟩
  conv => whnf
  refine ⟨rfl, by omega, int_getChars hz h2 (by rw [List.length_append, chv_len]; omega) (by rw [List.length_append, chv_len]; omega) hG1 fun g2 hp2 => ?_⟩
  conv => whnf
  have hF := hF1.trans (Fr.put (S := fun w => w = a) h2 hp2 (Or.inl rfl)) (fun w hw => Or.inl hw)
  have h1 := (hp2.2.2 _ (ne_tag h2 h1 rfl)).trans h1
  have h2 := hp2.2.1
  refine ⟨_, _, _, h1, rfl, _, rfl, by simp, trivial, fun g3 hp3 => ?_⟩
  conv => whnf
  have h2 := (hp3.2.2 _ (ne_tag h1 h2 rfl)).trans h2
  have h1 := hp3.2.1
  dsimp only [List.set] at h1
  have hF := hF.trans (Fr.put (S := fun w => w = a) (by assumption) hp3 (Or.inl rfl)) (fun w hw => Or.inl hw)
  rw [wr_app] at h2
  refine ⟨trivial, hQ g3 ⟨b, tl.drop (decZ z).length, m, by rw [List.length_append]; exact h1, h2, ?_, asc7_app h4 (decZ_asc hz), h5⟩ hF⟩
  rw [List.length_append, List.length_drop]; omega
theorem sb_appendI {cap : Nat} {z : Int} (h : SB g a s cap) (hz : z.natAbs < 10000) (hk : s.length + (decZ z).length < 2 ^ 19) (hG : GL E g) (hd : 6 ≤ d) (hl : g.1 + grw cap (s.length + (decZ z).length) ≤ LIM) (hQ : ∀ g', SB g' a (s ++ decZ z) (ncap cap (s.length + (decZ z).length)) → Fr (fun w => w = a) (grw cap (s.length + (decZ z).length)) g g' → Q (some (.ref a)) g') : Runs E 257 [.ref a, .int (zI z)] g d Q X := by
  have h0 := h
  obtain ⟨b, tl, m, h1, h2, h3, h4, h5⟩ := h
  refine Runs_from meth_J5_append_2 (Nat.le_of_ble_eq_true rfl) (from_wp 400 meth_J5_append_2 nocut ?_)
  conv => whnf
  refine ⟨⟨_, h1, Nat.le_of_ble_eq_true rfl⟩, rfl, by omega, sb_appendI4 h0 hz hk hG (by omega) hl fun g1 hS1 hF1 => ?_⟩
  conv => whnf
  exact ⟨trivial, hQ g1 hS1 hF1⟩
theorem sb_initS {x : Nat} (h : g.2 a = some (27, [.null, .int (nI 0), .int (nI 0), .int (nI 0)], some a)) (ht : Str g x t) (hk : t.length < 2 ^ 18) (hd : 11 ≤ d) (hl : g.1 + 21 + t.length ≤ LIM) (hQ : ∀ g', SB g' a t (t.length + 16) → Fr (fun w => w = a) (21 + t.length) g g' → Q none g') : Runs E 172 [.ref a, .ref x] g d Q X := by
  obtain ⟨tb, u, v, t1, t2, t3, t4⟩ := id ht
  have hF := Fr.refl (S := (fun w => w = a)) (n := 0) (g := g)
  refine Runs_from meth_J5_init_2 (Nat.le_of_ble_eq_true rfl) (from_wp 400 meth_J5_init_2 nocut ?_)
  conv => whnf
  refine ⟨⟨_, h, Nat.le_of_ble_eq_true rfl⟩, rfl, by omega, ?_⟩
  refine Runs_from meth_J4_init_2 (Nat.le_of_ble_eq_true rfl) (from_wp 400 meth_J4_init_2 nocut ?_)
  conv => whnf
  refine ⟨rfl, by omega, ?_⟩
  conv => whnf
  refine ⟨_, t1, _, rfl, rfl, by omega, str_length ht (by omega) ?_⟩
  conv => whnf
  refine ⟨fun hh => ?_, fun _ => ?_⟩
  · exact absurd hh (by rw [Int32.not_le]; show nI t.length < nI 2147483631; rw [nI_ltI (by omega) (by omega)]; omega)
  conv => whnf
  simp only [cst, nI_add]
  refine ⟨_, t1, _, rfl, rfl, by omega, str_coder ht ?_⟩
  conv => whnf
  refine ⟨_, _, _, h, rfl, _, rfl, by simp, nrwB (n := 0) (by omega), fun g1 hp1 => ?_⟩
  conv => whnf
  have t1 := (hp1.2.2 _ (ne_tag h t1 rfl)).trans t1
  have t2 := (hp1.2.2 _ (ne_tag h t2 rfl)).trans t2
  have hF := hF.trans (Fr.put (S := (fun w => w = a)) h hp1 (Or.inl rfl)) (fun w hw => Or.inl hw)
  have h := hp1.2.1
  dsimp only [List.set] at h
  have hg1 : g1.1 = g.1 := hp1.1
  refine ⟨fun hh => absurd hh (by decide +kernel), fun _ => ?_⟩
  conv => whnf
  refine ⟨t.length + 16, rfl, by omega, by omega, fun b hb => ⟨a, fun g2 hn2 => ?_⟩⟩
  conv => whnf
  have hF := hF.trans (Fr.new (S := fun w => w = a) hn2) (fun w hw => Or.inl hw)
  have h := (hn2.2.2.2 _ (ne_new hb h)).trans h
  have hb2 := hn2.2.2.1
  have hg2 : g2.1 = g1.1 + 5 + (t.length + 16) := hn2.2.1
  refine ⟨_, _, _, h, rfl, _, rfl, by simp, trivial, fun g3 hp3 => ?_⟩
  conv => whnf
  have hb2 := (hp3.2.2 _ (ne_tag h hb2 rfl)).trans hb2
  have hF := hF.trans (Fr.put (S := (fun w => w = a)) h hp3 (Or.inl rfl)) (fun w hw => Or.inl hw)
  have h := hp3.2.1
  dsimp only [List.set] at h
  have hg3 : g3.1 = g2.1 := hp3.1
  have hS : SB g3 a [] (t.length + 16) := ⟨b, List.replicate (t.length + 16) (.int (nI 0)), _, h, hb2, by simp, (fun c hc => by cases hc), by omega⟩
  have ht3 := ht.fr hF
  have e1 : grw (t.length + 16) (([] : List Nat).length + t.length) = 0 := by rw [grw, if_neg (by simp)]
  have e2 : ncap (t.length + 16) (([] : List Nat).length + t.length) = t.length + 16 := by rw [ncap, if_neg (by simp)]
  refine ⟨_, h, _, rfl, rfl, by omega, ?_⟩
  refine Runs_from meth_J5_append_4 (Nat.le_of_ble_eq_true rfl) (from_wp 400 meth_J5_append_4 nocut ?_)
  conv => whnf
  refine ⟨_, h, _, rfl, rfl, by omega, sb_appendS hS ht3 (by simp; omega) (by omega) (by rw [e1]; omega) fun g4 hS4 hF4 => ?_⟩
  conv => whnf
  rw [e1] at hF4
  rw [e2, List.nil_append] at hS4
  refine ⟨trivial, ?_⟩
  conv => whnf
  refine ⟨trivial, ?_⟩
  conv => whnf
  have hF5 := hF.trans hF4 (fun w hw => Or.inl hw)
  exact ⟨trivial, hQ g4 hS4 (hF5.weak (fun w hw => Or.inl hw) (by omega))⟩
theorem sub_snoc {S : List Nat} {p k : Nat} (h : p + k < S.length) : (S.drop p).take (k + 1) = (S.drop p).take k ++ [S[p + k]] := by
  rw [List.take_succ_eq_append_getElem (by rw [List.length_drop]; omega), List.getElem_drop]
theorem sb_appendA {S : List Nat} {cap x p n : Nat} {o : Option Nat} (h : SB g a s cap) (hx : g.2 x = some (101, chv S, o)) (hxo : o ≠ some a) (hxp : prot (fun w => w = a) g o) (hpn : p + n ≤ S.length) (hS : S.length < 2 ^ 19) (h7 : asc7 S) (hk : s.length + n < 2 ^ 19) (hd : 6 ≤ d) (hl : g.1 + grw cap (s.length + n) ≤ LIM) (hQ : ∀ g', SB g' a (s ++ (S.drop p).take n) (ncap cap (s.length + n)) → Fr (fun w => w = a) (grw cap (s.length + n)) g g' → Q (some (.ref a)) g') : Runs E 441 [.ref a, .ref x, .int (nI p), .int (nI n)] g d Q X := by
  have h0 := h
  obtain ⟨b, tl, m, h1, h2, h3, h4, h5⟩ := h
  have eS : (chv S).length = S.length := chv_len S
  refine Runs_from meth_J5_append_5 (Nat.le_of_ble_eq_true rfl) (from_wp 400 meth_J5_append_5 nocut ?_)
  conv => whnf
  refine ⟨⟨_, h1, Nat.le_of_ble_eq_true rfl⟩, rfl, by omega, ?_⟩
  refine Runs_from meth_J4_append_4 (Nat.le_of_ble_eq_true rfl) (from_wp 400 meth_J4_append_4 nocut ?_)
  conv => whnf
  simp only [nI_add]
  refine ⟨_, hx, Nat.le_of_ble_eq_true rfl, by first | omega | (dsimp only; omega) | (simp only [List.length_append]; omega) | (simp; omega) | simp, ?_⟩
  conv => whnf
  dsimp only
  rw [eS]
  refine ⟨?_, fun y => ?_⟩
  all_goals
    refine ⟨rfl, by omega, ?_⟩
    refine Runs_from meth_J17_checkFromToIndex (Nat.le_of_ble_eq_true rfl) (from_wp 400 meth_J17_checkFromToIndex nocut ?_)
    conv => whnf
    refine ⟨fun hh => absurd hh (by simp (disch := omega) only [cst, ne_eq, nI_add, nI_ltI, nI_leI, nI_eq]; omega), fun _ => ?_⟩
    conv => whnf
    refine ⟨fun hh => absurd hh (by simp (disch := omega) only [cst, ne_eq, nI_add, nI_ltI, nI_leI, nI_eq]; omega), fun _ => ?_⟩
    conv => whnf
    refine ⟨fun _ => ?_, fun hh => absurd (by simp (disch := omega) only [cst, ne_eq, nI_add, nI_ltI, nI_leI, nI_eq]; omega) hh⟩
    conv => whnf
    refine ⟨trivial, ?_⟩
    conv => whnf
    refine ⟨_, h1, _, rfl, _, rfl, ?_⟩
    conv => whnf
    simp only [nI_add]
    refine ⟨_, h1, _, rfl, rfl, by omega, sb_ensure' h0 hk (by omega) hl fun g1 hS1 hF1 => ?_⟩
    conv => whnf
    have hx1 := hF1.1 _ _ _ _ hx hxp
    obtain ⟨b1, tl1, m1, k1, k2, k3, k4, k5⟩ := id hS1
    have hcap : s.length + n ≤ ncap cap (s.length + n) := by unfold ncap; split <;> omega
    refine ⟨_, k1, _, rfl, rfl, by omega, ?_⟩
    have hNe : x ≠ b1 := fun e => by rw [e, k2] at hx1; cases hx1
    have loop : ∀ (Q' : Post) (X' : XPost), (∀ g', SB g' a (s ++ (S.drop p).take n) (ncap cap (s.length + n)) → Fr (fun w => w = a) (grw cap (s.length + n)) g g' → Q' none g') → ∀ j k (g2 : Hp) (L8 : Sl), k ≤ n → n - k = j → (L8 = none ∨ ∃ x, L8 = some (.inl (.int x))) → g2.2 x = some (101, chv S, o) → g2.2 a = some (27, [.ref b1, .int (nI 0), .int m1, .int (nI s.length)], some a) → g2.2 b1 = some (100, wr (chv s ++ tl1) s.length ((S.drop p).take k), some a) → Fr (fun w => w = a) (grw cap (s.length + n)) g g2 → From E 522 "java/lang/AbstractStringBuilder" false (d - 1 - 1) Q' X' 26 [some (.inl (.ref a)), some (.inl (.ref x)), some (.inl (.int (nI p))), some (.inl (.int (nI (p + n)))), some (.inl (.int (nI s.length))), some (.inl (.ref b1)), some (.inl (.int (nI (p + k)))), some (.inl (.int (nI (s.length + k)))), L8] [] g2 := by
      intro Q' X' hQ' j
      induction j with
      | zero =>
        intro k g2 L8 hkn hj hL8 e0 e1 e2 hF
        have : k = n := by omega
        subst this
        have elen : ((S.drop p).take k).length = k := by rw [List.length_take, List.length_drop]; omega
        rcases hL8 with rfl | ⟨x8, rfl⟩
        all_goals
          refine from_wp 400 meth_J4_appendChars (selfcut 26) ?_
          conv => whnf
          refine ⟨fun _ => ?_, fun hh => absurd (by simp (disch := omega) only [cst, ne_eq, nI_add, nI_ltI, nI_leI, nI_eq]; omega) hh⟩
          conv => whnf
          have e3 : nI s.length + nI (p + k) - nI p = nI (s.length + k) := by rw [nI_add, nI_sub (by omega)]; congr 1; omega
          rw [e3]
          refine ⟨_, _, _, e1, rfl, _, rfl, by simp, trivial, fun g3 hp3 => ?_⟩
          conv => whnf
          refine ⟨trivial, hQ' g3 ?_ (hF.trans (Fr.put (S := fun w => w = a) e1 hp3 (Or.inl rfl)) fun w hw => Or.inl hw)⟩
          have e4 := (hp3.2.2 _ (ne_tag e1 e2 rfl)).trans e2
          rw [wr_app] at e4
          refine ⟨b1, _, m1, by rw [List.length_append, elen]; exact hp3.2.1, e4, ?_, asc7_app k4 (asc7_sub h7), k5⟩
          rw [List.length_append, elen, List.length_drop]; omega
      | succ j ih =>
        intro k g2 L8 hkn hj hL8 e0 e1 e2 hF
        have hks : p + k < S.length := by omega
        have q1 : S[p + k]? = some S[p + k] := List.getElem?_eq_getElem hks
        have r1 : S[p + k] < 128 := h7 _ (List.getElem_mem hks)
        have elen : ((S.drop p).take k).length = k := by rw [List.length_take, List.length_drop]; omega
        rcases hL8 with rfl | ⟨x8, rfl⟩
        all_goals
          refine from_wp 400 meth_J4_appendChars (selfcut 26) ?_
          conv => whnf
          refine ⟨fun hh => absurd hh (by simp (disch := omega) only [cst, ne_eq, nI_add, nI_ltI, nI_leI, nI_eq]; omega), fun _ => ?_⟩
          conv => whnf
          refine ⟨_, e0, rfl, p + k, rfl, by omega, _, nth_chv q1, ?_⟩
          conv => whnf
          refine ⟨rfl, by omega, ?_⟩
          refine Runs_from meth_J18_canEncode (Nat.le_of_ble_eq_true rfl) (from_wp 400 meth_J18_canEncode nocut ?_)
          conv => whnf
          refine ⟨fun hh => absurd hh (by simp (disch := omega) only [cst, ne_eq, nI_add, nI_ltI, nI_leI, nI_eq]; omega), fun _ => ?_⟩
          conv => whnf
          refine ⟨Or.inr rfl, ?_⟩
          conv => whnf
          refine ⟨fun hh => absurd hh (by decide +kernel), fun _ => ?_⟩
          conv => whnf
          rw [i2b_c r1]
          refine ⟨_, _, _, e2, Or.inl ⟨rfl, nrwB r1⟩, s.length + k, rfl, by omega, by rw [wr_len (by rw [List.length_append, chv_len, elen]; omega), List.length_append, chv_len]; omega, fun g3 hp3 => ?_⟩
          conv => whnf
          simp only [cst, nI_add]
          have e2b : g3.2 b1 = some (100, wr (chv s ++ tl1) s.length ((S.drop p).take (k + 1)), some a) := by
            rw [hp3.2.1, sub_snoc hks]
            congr 2
            rw [wr_app, wr_app]
            have hlen : (chv (s ++ (S.drop p).take k)).length = s.length + k := by rw [chv_len, List.length_append, elen]
            rw [List.set_append_right _ _ (by omega), hlen, Nat.sub_self, elen]
            have e9 : (tl1.drop k) = tl1[k]'(by omega) :: tl1.drop (k + 1) := List.drop_eq_getElem_cons (by omega)
            rw [e9, List.set_cons_zero]
            simp only [chv, List.map_append, List.map_cons, List.map_nil, List.append_assoc, List.singleton_append, List.length_append, elen]
            rfl
          exact ⟨trivial, ih (k + 1) g3 _ (by omega) (by omega) (Or.inr ⟨_, rfl⟩) ((hp3.2.2 _ (ne_tag e2 e0 rfl)).trans e0) ((hp3.2.2 _ (ne_tag e2 e1 rfl)).trans e1) e2b (hF.trans (Fr.put (S := fun w => w = a) e2 hp3 (Or.inl rfl)) fun w hw => Or.inl hw)⟩
    refine Runs_from meth_J4_appendChars (Nat.le_of_ble_eq_true rfl) (from_wp 400 meth_J4_appendChars (selfcut 26) ?_)
    conv => whnf
    refine ⟨_, k1, _, rfl, _, rfl, ?_⟩
    conv => whnf
    refine ⟨_, k1, _, rfl, rfl, by omega, sb_isLatin1 hS1 ?_⟩
    conv => whnf
    refine ⟨fun hh => absurd hh (by decide +kernel), fun _ => ?_⟩
    conv => whnf
    refine ⟨_, k1, _, rfl, _, rfl, ?_⟩
    conv => whnf
    refine ⟨trivial, loop _ _ (fun g' q1 q2 => ?_) n 0 g1 none (by omega) (by omega) (Or.inl rfl) hx1 k1 (by rw [List.take_zero, wr_nil]; exact k2) hF1⟩
    conv => whnf
    refine ⟨trivial, ?_⟩
    conv => whnf
    exact ⟨trivial, hQ g' q1 q2⟩
end SB5
