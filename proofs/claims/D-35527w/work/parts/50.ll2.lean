/-! LinkedList: iterators, clear, removal of an object -/
def LI (g : Hp) (a it : Nat) (L : List (Nat × Nat)) (i : Nat) (mc : Int32) (lr : Value) : Prop := LL g a L mc ∧ i ≤ L.length ∧ g.2 it = some (32, [lr, rv L i, .int (nI i), .int mc, .ref a], some it) ∧ it ≠ a
theorem LL.fr {S : Nat → Prop} {k : Nat} {g g' : Hp} {a : Nat} {L : List (Nat × Nat)} {mc : Int32} (h : LL g a L mc) (hf : Fr S k g g') (hs : ¬ S a) : LL g' a L mc := by
  have hp : prot S g (some a) := fun w hw => by cases hw; exact ⟨hs, by rw [h.1]; simp⟩
  exact ⟨hf.1 _ _ _ _ h.1 hp, fun i p x hi => hf.1 _ _ _ _ (h.2.1 i p x hi) hp, h.2.2⟩
section LLT
variable {E : Ev} {g : Hp} {a b d : Nat} {L : List (Nat × Nat)} {mc : Int32} {Q : Post} {X : XPost}
theorem li_new (h : LL g a L mc) (hd : 6 ≤ d) (hL : g.1 + 10 ≤ LIM) (hQ : ∀ g' it, g.2 it = none → LI g' a it L 0 mc .null → Fr (fun _ => False) 10 g g' → Q (some (.ref it)) g') : Runs E 391 [.ref a] g d Q X := by
  have h0 := h
  obtain ⟨h1, h2, h3, h4⟩ := h
  refine Runs_from meth_J2_iterator (Nat.le_of_ble_eq_true rfl) (from_wp 400 meth_J2_iterator nocut ?_)
  conv => whnf
  refine ⟨_, h1, _, rfl, rfl, by omega, ?_⟩
  refine Runs_from meth_J1_listIterator (Nat.le_of_ble_eq_true rfl) (from_wp 400 meth_J1_listIterator nocut ?_)
  conv => whnf
  refine ⟨_, h1, _, rfl, rfl, by omega, ?_⟩
  refine Runs_from meth_J3_listIterator (Nat.le_of_ble_eq_true rfl) (from_wp 400 meth_J3_listIterator nocut ?_)
  conv => whnf
  refine ⟨_, h1, _, rfl, rfl, by omega, ?_⟩
  refine Runs_from meth_J3_checkPositionIndex (Nat.le_of_ble_eq_true rfl) (from_wp 400 meth_J3_checkPositionIndex nocut ?_)
  conv => whnf
  refine ⟨_, h1, _, rfl, rfl, by omega, ?_⟩
  refine Runs_from meth_J3_isPositionIndex (Nat.le_of_ble_eq_true rfl) (from_wp 400 meth_J3_isPositionIndex nocut ?_)
  conv => whnf
  refine ⟨fun hh => absurd hh (by decide +kernel), fun _ => ?_⟩
  conv => whnf
  refine ⟨_, h1, _, rfl, _, rfl, ?_⟩
  conv => whnf
  refine ⟨fun hh => absurd hh (by simp (disch := omega) only [cst, ne_eq, nI_add, nI_ltI, nI_leI, nI_eq]; omega), fun _ => ?_⟩
  conv => whnf
  refine ⟨Or.inr rfl, ?_⟩
  conv => whnf
  refine ⟨fun _ => ?_, fun hh => absurd (by decide +kernel) hh⟩
  conv => whnf
  refine ⟨trivial, ?_⟩
  conv => whnf
  refine ⟨(by simp only [List.length_cons, List.length_nil]; omega), fun it hit0 => ⟨it, fun g1 hn => ?_⟩⟩
  conv => whnf
  have h1 := (hn.2.2.2 _ (ne_new hit0 h1)).trans h1
  have hit := hn.2.2.1
  have h0a : LL g1 a L mc := h0.fr (Fr.new (S := fun _ => False) hn) id
  have hia : it ≠ a := Ne.symm (ne_new hn.1 h0.1)
  have hF := Fr.refl (S := fun w => w = it) (n := 0) (g := g1)
  refine ⟨⟨_, hit, Nat.le_of_ble_eq_true rfl⟩, rfl, by omega, ?_⟩
  refine Runs_from meth_J33_init (Nat.le_of_ble_eq_true rfl) (from_wp 400 meth_J33_init nocut ?_)
  conv => whnf
  refine ⟨_, _, _, hit, rfl, _, rfl, by simp, trivial, fun g2 hp2 => ?_⟩
  conv => whnf
  have h1 := (hp2.2.2 _ (ne_tag hit h1 rfl)).trans h1
  have hF := hF.trans (Fr.put (S := fun w => w = it) hit hp2 (Or.inl rfl)) (fun w hw => Or.inl hw)
  have hit := hp2.2.1
  dsimp only [List.set] at hit
  refine ⟨rfl, by omega, ?_⟩
  conv => whnf
  refine ⟨_, hit, _, rfl, _, rfl, ?_⟩
  conv => whnf
  refine ⟨_, h1, _, rfl, _, rfl, ?_⟩
  conv => whnf
  refine ⟨_, _, _, hit, rfl, _, rfl, by simp, trivial, fun g3 hp3 => ?_⟩
  conv => whnf
  have h1 := (hp3.2.2 _ (ne_tag hit h1 rfl)).trans h1
  have hF := hF.trans (Fr.put (S := fun w => w = it) hit hp3 (Or.inl rfl)) (fun w hw => Or.inl hw)
  have hit := hp3.2.1
  dsimp only [List.set] at hit
  have h0b := h0a.fr hF (fun e => hia e.symm)
  refine ⟨_, h1, _, rfl, _, rfl, ?_⟩
  conv => whnf
  have fin : ∀ g4, Put g3 g4 it (32, [.null, rv L 0, .int (nI 0), .int mc, .ref a], some it) → LI g4 a it L 0 mc .null ∧ Fr (fun _ => False) 10 g g4 := by
    intro g4 hp4
    have hF4 := hF.trans (Fr.put (S := fun w => w = it) hit hp4 (Or.inl rfl)) (fun w hw => Or.inl hw)
    exact ⟨⟨h0a.fr hF4 (fun e => hia e.symm), by omega, hp4.2.1, hia⟩, (Fr.new0 (S := fun _ => False) hn hF4).weak (fun w (hw : False) => hw.elim) (by simp only [List.length_cons, List.length_nil]; omega)⟩
  by_cases hl : L = []
  · subst hl
    refine ⟨fun hh => absurd hh (by decide +kernel), fun _ => ?_⟩
    conv => whnf
    refine ⟨_, _, _, hit, rfl, _, rfl, by simp, trivial, fun g4 hp4 => ?_⟩
    conv => whnf
    have hit4 := hp4.2.1
    dsimp only [List.set] at hit4
    refine ⟨_, _, _, hit4, rfl, _, rfl, by simp, trivial, fun g5 hp5 => ?_⟩
    conv => whnf
    refine ⟨trivial, ?_⟩
    conv => whnf
    refine ⟨trivial, ?_⟩
    conv => whnf
    refine ⟨trivial, ?_⟩
    conv => whnf
    obtain ⟨r1, r2⟩ := fin g5 (hp4.tr hp5)
    exact ⟨trivial, hQ g5 it hit0 r1 r2⟩
  · have hl0 : 0 < L.length := List.length_pos_iff.mpr hl
    obtain ⟨⟨p, x⟩, hp⟩ : ∃ z, L[0]? = some z := ⟨L[0]'hl0, List.getElem?_eq_getElem hl0⟩
    have er : rv L 0 = .ref p := rv_at hp
    rw [er] at fin h1
    refine ⟨fun _ => ?_, fun hh => absurd (by show ¬ nI 0 = nI L.length; rw [nI_eq (by omega) (by omega)]; omega) hh⟩
    conv => whnf
    have node : ∀ (Q' : Post) (X' : XPost), Q' (some (.ref p)) g3 → Runs E 273 [.ref a, .int (nI 0)] g3 (d - 1 - 1 - 1 - 1) Q' X' := by
      intro Q' X' hq
      refine Runs_from meth_J3_node (Nat.le_of_ble_eq_true rfl) (from_wp 400 meth_J3_node nocut ?_)
      conv => whnf
      refine ⟨_, h1, _, rfl, _, rfl, ?_⟩
      conv => whnf
      simp only [cst, shr1 (show L.length < 2 ^ 25 by omega)]
      refine ⟨fun hh => ?_, fun hh => ?_⟩
      · have hh : L.length / 2 ≤ 0 := (nI_leI (by omega) (by omega)).mp hh
        have h11 : L.length = 1 := by omega
        have el : lp L L.length = .ref p := by rw [h11]; exact er
        rw [el] at h1
        conv => whnf
        refine ⟨_, h1, _, rfl, _, rfl, ?_⟩
        conv => whnf
        refine ⟨_, h1, _, rfl, _, rfl, ?_⟩
        conv => whnf
        rw [h11]
        refine ⟨fun _ => ?_, fun hh => absurd (by decide +kernel) hh⟩
        conv => whnf
        exact ⟨trivial, hq⟩
      · conv => whnf
        refine ⟨_, h1, _, rfl, _, rfl, ?_⟩
        conv => whnf
        refine ⟨fun _ => ?_, fun hh => absurd (by decide +kernel) hh⟩
        conv => whnf
        exact ⟨trivial, hq⟩
    refine ⟨_, h1, _, rfl, rfl, by omega, node _ _ ?_⟩
    conv => whnf
    refine ⟨_, _, _, hit, rfl, _, rfl, by simp, trivial, fun g4 hp4 => ?_⟩
    conv => whnf
    have hit4 := hp4.2.1
    dsimp only [List.set] at hit4
    refine ⟨_, _, _, hit4, rfl, _, rfl, by simp, trivial, fun g5 hp5 => ?_⟩
    conv => whnf
    refine ⟨trivial, ?_⟩
    conv => whnf
    refine ⟨trivial, ?_⟩
    conv => whnf
    refine ⟨trivial, ?_⟩
    conv => whnf
    obtain ⟨r1, r2⟩ := fin g5 (hp4.tr hp5)
    exact ⟨trivial, hQ g5 it hit0 r1 r2⟩
theorem li_hasNext {it i : Nat} {lr : Value} (h : LI g a it L i mc lr) (hQ : Q (some (.int (nI (if i = L.length then 0 else 1)))) g) : Runs E 275 [.ref it] g d Q X := by
  obtain ⟨⟨h1, h2, h3, h4⟩, h5, hit, h6⟩ := h
  refine Runs_from meth_J33_hasNext (Nat.le_of_ble_eq_true rfl) (from_wp 400 meth_J33_hasNext nocut ?_)
  conv => whnf
  refine ⟨_, hit, _, rfl, _, rfl, ?_⟩
  conv => whnf
  refine ⟨_, hit, _, rfl, _, rfl, ?_⟩
  conv => whnf
  refine ⟨_, h1, _, rfl, _, rfl, ?_⟩
  conv => whnf
  refine ⟨fun hh => ?_, fun hh => ?_⟩
  · have hh : L.length ≤ i := (nI_leI (by omega) (by omega)).mp hh
    rw [if_pos (by omega)] at hQ
    conv => whnf
    exact ⟨Or.inl rfl, hQ⟩
  · have hh : ¬ L.length ≤ i := fun e => hh ((nI_leI (by omega) (by omega)).mpr e)
    rw [if_neg (by omega)] at hQ
    conv => whnf
    exact ⟨Or.inr rfl, hQ⟩
theorem li_next {it i p x : Nat} {lr : Value} (h : LI g a it L i mc lr) (hi : L[i]? = some (p, x)) (hlr : lr = .null ∨ ∃ y, lr = .ref y) (hd : 2 ≤ d) (hQ : ∀ g', LI g' a it L (i + 1) mc (.ref p) → Fr (fun w => w = it) 0 g g' → Q (some (.ref x)) g') : Runs E 394 [.ref it] g d Q X := by
  have h0 := h
  obtain ⟨⟨h1, h2, h3, h4⟩, h5, hit, h6⟩ := h
  have hil := (List.getElem?_eq_some_iff.mp hi).1
  have hp := h2 i p x hi
  have hpit : p ≠ it := ne_tag hit hp rfl
  have er : rv L i = .ref p := rv_at hi
  rw [er] at hit
  have fin : ∀ g' : Hp, g'.2 it = some (32, [.ref p, rv L (i + 1), .int (nI (i + 1)), .int mc, .ref a], some it) → Fr (fun w => w = it) 0 g g' → Q (some (.ref x)) g' := fun g' e hF => hQ g' ⟨h0.1.fr hF (fun e => h6 e.symm), by omega, e, h6⟩ hF
  have hF := Fr.refl (S := (fun w => w = it)) (n := 0) (g := g)
  refine Runs_from meth_J33_next (Nat.le_of_ble_eq_true rfl) (from_wp 400 meth_J33_next nocut ?_)
  conv => whnf
  refine ⟨_, hit, _, rfl, rfl, by omega, ?_⟩
  refine Runs_from meth_J33_checkForComodification (Nat.le_of_ble_eq_true rfl) (from_wp 400 meth_J33_checkForComodification nocut ?_)
  conv => whnf
  refine ⟨_, hit, _, rfl, _, rfl, ?_⟩
  conv => whnf
  refine ⟨_, h1, _, rfl, _, rfl, ?_⟩
  conv => whnf
  refine ⟨_, hit, _, rfl, _, rfl, ?_⟩
  conv => whnf
  refine ⟨fun _ => ?_, fun hh => absurd rfl hh⟩
  conv => whnf
  refine ⟨trivial, ?_⟩
  conv => whnf
  have hit0 : LI g a it L i mc lr := h0
  refine ⟨_, hit, _, rfl, rfl, by omega, li_hasNext hit0 ?_⟩
  conv => whnf
  rw [if_neg (by omega)]
  refine ⟨fun _ => ?_, fun hh => absurd (by decide +kernel) hh⟩
  conv => whnf
  refine ⟨_, hit, _, rfl, _, rfl, ?_⟩
  conv => whnf
  refine ⟨_, _, _, hit, rfl, _, rfl, by simp, trivial, fun g1 hp1 => ?_⟩
  conv => whnf
  have hp := (hp1.2.2 _ (ne_tag hit hp rfl)).trans hp
  have hF := hF.trans (Fr.put (S := (fun w => w = it)) hit hp1 (Or.inl rfl)) (fun w hw => Or.inl hw)
  have hit := hp1.2.1
  dsimp only [List.set] at hit
  refine ⟨_, hit, _, rfl, _, rfl, ?_⟩
  conv => whnf
  rcases rv_or L (i + 1) with ⟨n, xn, en, hn⟩ | ⟨en, hn⟩ <;> rw [en] at hp fin
  all_goals
    refine ⟨_, hp, _, rfl, _, rfl, ?_⟩
    conv => whnf
    refine ⟨_, _, _, hit, rfl, _, rfl, by simp, trivial, fun g2 hp2 => ?_⟩
    conv => whnf
    have hp := (hp2.2.2 _ (ne_tag hit hp rfl)).trans hp
    have hF := hF.trans (Fr.put (S := (fun w => w = it)) hit hp2 (Or.inl rfl)) (fun w hw => Or.inl hw)
    have hit := hp2.2.1
    dsimp only [List.set] at hit
    refine ⟨_, hit, _, rfl, _, rfl, ?_⟩
    conv => whnf
    simp only [cst, nI_add]
    refine ⟨_, _, _, hit, rfl, _, rfl, by simp, trivial, fun g3 hp3 => ?_⟩
    conv => whnf
    have hp := (hp3.2.2 _ (ne_tag hit hp rfl)).trans hp
    have hF := hF.trans (Fr.put (S := (fun w => w = it)) hit hp3 (Or.inl rfl)) (fun w hw => Or.inl hw)
    have hit := hp3.2.1
    dsimp only [List.set] at hit
    refine ⟨_, hit, _, rfl, _, rfl, ?_⟩
    conv => whnf
    refine ⟨_, hp, _, rfl, _, rfl, ?_⟩
    conv => whnf
    exact ⟨trivial, fin g3 hit hF⟩
theorem li_remove {it i p x : Nat} (h : LI g a it L (i + 1) mc (.ref p)) (hi : L[i]? = some (p, x)) (hd : 2 ≤ d) (hQ : ∀ g', LI g' a it (L.eraseIdx i) i (mc + nI 1) .null → Fr (fun w => w = a ∨ w = it) 0 g g' → Q none g') : Runs E 400 [.ref it] g d Q X := by
  have h0 := h
  obtain ⟨⟨h1, h2, h3, h4⟩, h5, hit, h6⟩ := h
  have hil := (List.getElem?_eq_some_iff.mp hi).1
  have hp := h2 i p x hi
  have hr : rv (L.eraseIdx i) i = rv L (i + 1) := by
    unfold rv
    rw [List.getElem?_eraseIdx, if_neg (by omega)]
  have hl : (L.eraseIdx i).length = L.length - 1 := by rw [List.length_eraseIdx, if_pos hil]
  refine Runs_from meth_J33_remove (Nat.le_of_ble_eq_true rfl) (from_wp 400 meth_J33_remove nocut ?_)
  conv => whnf
  refine ⟨_, hit, _, rfl, rfl, by omega, ?_⟩
  refine Runs_from meth_J33_checkForComodification (Nat.le_of_ble_eq_true rfl) (from_wp 400 meth_J33_checkForComodification nocut ?_)
  conv => whnf
  refine ⟨_, hit, _, rfl, _, rfl, ?_⟩
  conv => whnf
  refine ⟨_, h1, _, rfl, _, rfl, ?_⟩
  conv => whnf
  refine ⟨_, hit, _, rfl, _, rfl, ?_⟩
  conv => whnf
  refine ⟨fun _ => ?_, fun hh => absurd rfl hh⟩
  conv => whnf
  refine ⟨trivial, ?_⟩
  conv => whnf
  refine ⟨_, hit, _, rfl, _, rfl, ?_⟩
  conv => whnf
  refine ⟨_, hit, _, rfl, _, rfl, ?_⟩
  conv => whnf
  rcases rv_or L (i + 1) with ⟨n, xn, en, hn⟩ | ⟨en, hn⟩
  all_goals
    rw [en] at hp hit hr
    refine ⟨_, hp, _, rfl, _, rfl, ?_⟩
    conv => whnf
    refine ⟨_, hit, _, rfl, _, rfl, ?_⟩
    conv => whnf
    refine ⟨_, hit, _, rfl, _, rfl, ?_⟩
    conv => whnf
    refine ⟨_, h1, _, rfl, rfl, by omega, ll_unlink h0.1 hi (by omega) fun g1 hL1 hpz hF1 => ?_⟩
    conv => whnf
    have hit := hF1.own hit h6 (by rw [hit]; simp)
    refine ⟨_, hit, _, rfl, _, rfl, ?_⟩
    conv => whnf
    refine ⟨_, hit, _, rfl, _, rfl, ?_⟩
    conv => whnf
  · have hne : ¬ n = p := fun e => by subst e; have := ll_inj h3 hn hi; omega
    refine ⟨fun h => absurd h hne, fun _ => ?_⟩
    conv => whnf
    have hF := hF1.weak (S' := fun w => w = a ∨ w = it) (fun w hw => Or.inl (Or.inl hw)) (Nat.le_refl 0)
    refine ⟨_, hit, _, rfl, _, rfl, ?_⟩
    conv => whnf
    simp only [cst, nI_sub (Nat.le_add_left 1 i), Nat.add_sub_cancel]
    refine ⟨_, _, _, hit, rfl, _, rfl, by simp, trivial, fun g2 hp2 => ?_⟩
    conv => whnf
    have hit2 := hp2.2.1
    dsimp only [List.set] at hit2
    refine ⟨_, _, _, hit2, rfl, _, rfl, by simp, trivial, fun g3 hp3 => ?_⟩
    conv => whnf
    have hit3 := hp3.2.1
    dsimp only [List.set] at hit3
    refine ⟨_, hit3, _, rfl, _, rfl, ?_⟩
    conv => whnf
    refine ⟨_, _, _, hit3, rfl, _, rfl, by simp, trivial, fun g4 hp4 => ?_⟩
    conv => whnf
    have hit4 := hp4.2.1
    dsimp only [List.set] at hit4
    have hFi := Fr.put (S := fun w => w = it) hit ((hp2.tr hp3).tr hp4) (Or.inl rfl)
    refine ⟨trivial, hQ g4 ⟨hL1.fr hFi (fun e => h6 e.symm), by omega, by rw [hr]; exact hit4, h6⟩ (hF.trans hFi fun w hw => Or.inl (Or.inr hw))⟩
  · have hF := hF1.weak (S' := fun w => w = a ∨ w = it) (fun w hw => Or.inl (Or.inl hw)) (Nat.le_refl 0)
    refine ⟨_, hit, _, rfl, _, rfl, ?_⟩
    conv => whnf
    simp only [cst, nI_sub (Nat.le_add_left 1 i), Nat.add_sub_cancel]
    refine ⟨_, _, _, hit, rfl, _, rfl, by simp, trivial, fun g2 hp2 => ?_⟩
    conv => whnf
    have hit2 := hp2.2.1
    dsimp only [List.set] at hit2
    refine ⟨_, _, _, hit2, rfl, _, rfl, by simp, trivial, fun g3 hp3 => ?_⟩
    conv => whnf
    have hit3 := hp3.2.1
    dsimp only [List.set] at hit3
    refine ⟨_, hit3, _, rfl, _, rfl, ?_⟩
    conv => whnf
    refine ⟨_, _, _, hit3, rfl, _, rfl, by simp, trivial, fun g4 hp4 => ?_⟩
    conv => whnf
    have hit4 := hp4.2.1
    dsimp only [List.set] at hit4
    have hFi := Fr.put (S := fun w => w = it) hit ((hp2.tr hp3).tr hp4) (Or.inl rfl)
    refine ⟨trivial, hQ g4 ⟨hL1.fr hFi (fun e => h6 e.symm), by omega, by rw [hr]; exact hit4, h6⟩ (hF.trans hFi fun w hw => Or.inl (Or.inr hw))⟩
theorem ll_clear (h : LL g a L mc) (hd : 1 ≤ d) (hQ : ∀ g', LL g' a [] (mc + nI 1) → Fr (fun w => w = a) 0 g g' → Q none g') : Runs E 401 [.ref a] g d Q X := by
  obtain ⟨h1, h2, h3, h4⟩ := h
  have loop : ∀ n i (g1 : Hp) (L2 : Sl), i ≤ L.length → L.length - i = n → (L2 = none ∨ ∃ v, L2 = some (.inl v) ∧ (v = .null ∨ ∃ q, v = .ref q)) → g1.2 a = some (30, [.int mc, .int (nI L.length), rv L 0, lp L L.length], some a) → (∀ (j p x : Nat), i ≤ j → L[j]? = some (p, x) → g1.2 p = some (31, [.ref x, rv L (j + 1), lp L j], some a)) → Fr (fun w => w = a) 0 g g1 → From E 401 "java/util/LinkedList" false d Q X 5 [some (.inl (.ref a)), some (.inl (rv L i)), L2] [] g1 := by
    intro n
    induction n with
    | zero =>
      intro i g1 L2 hi hn hL2 e1 e2 hF
      have hil : L.length ≤ i := by omega
      rw [rv_none hil]
      rcases hL2 with rfl | ⟨v, rfl, rfl | ⟨q, rfl⟩⟩
      all_goals
        refine from_wp 400 meth_J3_clear (selfcut 5) ?_
        conv => whnf
        refine ⟨_, _, _, e1, rfl, _, rfl, by simp, trivial, fun g2 hp2 => ?_⟩
        conv => whnf
        have hF2 := hF.trans (Fr.put (S := fun w => w = a) e1 hp2 (Or.inl rfl)) (fun w hw => Or.inl hw)
        have e2b := hp2.2.1
        dsimp only [List.set] at e2b
        refine ⟨_, _, _, e2b, rfl, _, rfl, by simp, trivial, fun g3 hp3 => ?_⟩
        conv => whnf
        have hF3 := hF2.trans (Fr.put (S := fun w => w = a) e2b hp3 (Or.inl rfl)) (fun w hw => Or.inl hw)
        have e3b := hp3.2.1
        dsimp only [List.set] at e3b
        refine ⟨_, _, _, e3b, rfl, _, rfl, by simp, trivial, fun g4 hp4 => ?_⟩
        conv => whnf
        have hF4 := hF3.trans (Fr.put (S := fun w => w = a) e3b hp4 (Or.inl rfl)) (fun w hw => Or.inl hw)
        have e4b := hp4.2.1
        dsimp only [List.set] at e4b
        refine ⟨_, e4b, _, rfl, _, rfl, ?_⟩
        conv => whnf
        refine ⟨_, _, _, e4b, rfl, _, rfl, by simp, trivial, fun g5 hp5 => ?_⟩
        conv => whnf
        have hF5 := hF4.trans (Fr.put (S := fun w => w = a) e4b hp5 (Or.inl rfl)) (fun w hw => Or.inl hw)
        exact ⟨trivial, hQ g5 ⟨hp5.2.1, (fun j p x hj => by simp at hj), by simp, by simp⟩ hF5⟩
    | succ n ih =>
      intro i g1 L2 hi hn hL2 e1 e2 hF
      have hil : i < L.length := by omega
      obtain ⟨⟨p, x⟩, hp⟩ : ∃ z, L[i]? = some z := ⟨L[i]'hil, List.getElem?_eq_getElem hil⟩
      have hc := e2 i p x (Nat.le_refl _) hp
      have hpa : p ≠ a := ne_tag e1 hc rfl
      have hap := Ne.symm hpa
      have er : rv L i = .ref p := rv_at hp
      have next : ∀ g4 : Hp, ∀ v, v = rv L (i + 1) → Put g1 g4 p (31, [.null, .null, .null], some a) → From E 401 "java/util/LinkedList" false d Q X 5 [some (.inl (.ref a)), some (.inl v), some (.inl v)] [] g4 := by
        intro g4 v hv hp4
        rw [hv]
        refine ih (i + 1) g4 _ (by omega) (by omega) (Or.inr ⟨_, rfl, ?_⟩) ((hp4.2.2 _ hap).trans e1) (fun j q y hj hq => ?_) (hF.trans (Fr.put (S := fun w => w = a) hc hp4 (Or.inl rfl)) fun w hw => Or.inl hw)
        · rcases rv_or L (i + 1) with ⟨n, xn, en, hn⟩ | ⟨en, hn⟩
          · exact Or.inr ⟨n, en⟩
          · exact Or.inl en
        · have : q ≠ p := fun e => by subst e; have := ll_inj h3 hq hp; omega
          rw [hp4.2.2 q this]
          exact e2 j q y (by omega) hq
      rw [er]
      rcases rv_or L (i + 1) with ⟨n, xn, en, hn⟩ | ⟨en, hn⟩ <;> rcases hL2 with rfl | ⟨v, rfl, rfl | ⟨q, rfl⟩⟩ <;> rw [en] at hc
      all_goals
        refine from_wp 400 meth_J3_clear (selfcut 5) ?_
        conv => whnf
        refine ⟨_, hc, _, rfl, _, rfl, ?_⟩
        conv => whnf
        refine ⟨_, _, _, hc, rfl, _, rfl, by simp, trivial, fun g2 hp2 => ?_⟩
        conv => whnf
        refine ⟨_, _, _, hp2.2.1, rfl, _, rfl, by simp, trivial, fun g3 hp3 => ?_⟩
        conv => whnf
        refine ⟨_, _, _, hp3.2.1, rfl, _, rfl, by simp, trivial, fun g4 hp4 => ?_⟩
        conv => whnf
        exact ⟨trivial, next g4 _ en.symm ((hp2.tr hp3).tr hp4)⟩
  have t0 := loop L.length 0 g none (by omega) (by omega) (Or.inl rfl) h1 (fun j p x _ hj => h2 j p x hj) Fr.refl
  rcases rv_or L 0 with ⟨n, xn, en, hn⟩ | ⟨en, hn⟩ <;> rw [en] at h1 t0
  all_goals
    refine Runs_from meth_J3_clear (Nat.le_of_ble_eq_true rfl) (from_wp 400 meth_J3_clear (selfcut 5) ?_)
    conv => whnf
    refine ⟨_, h1, _, rfl, _, rfl, ?_⟩
    conv => whnf
    exact ⟨trivial, t0⟩
/-- where an object is first -/
theorem ll_rmLoop {x : Nat} {cx : Cel} (h : LL g a L mc) (hx : g.2 x = some cx) (hsx : sel 39 cx.1 = some 283) (hd : 2 ≤ d)
    (hQ1 : ∀ (i p : Nat), L[i]? = some (p, x) → (∀ (j q y : Nat), j < i → L[j]? = some (q, y) → y ≠ x) → ∀ g', LL g' a (L.eraseIdx i) (mc + nI 1) → Fr (fun w => w = a) 0 g g' → Q (some (.int (nI 1))) g')
    (hQ2 : (∀ (i p y : Nat), L[i]? = some (p, y) → y ≠ x) → Q (some (.int (nI 0))) g) : Runs E 456 [.ref a, .ref x] g d Q X := by
  obtain ⟨h1, h2, h3, h4⟩ := id h
  have loop : ∀ n i, i ≤ L.length → L.length - i = n → (∀ (j q y : Nat), j < i → L[j]? = some (q, y) → y ≠ x) → From E 456 "java/util/LinkedList" false d Q X 44 [some (.inl (.ref a)), some (.inl (.ref x)), some (.inl (rv L i))] [] g := by
    intro n
    induction n with
    | zero =>
      intro i hi hn hf
      rw [rv_none (by omega)]
      refine from_wp 400 meth_J3_remove_2 (selfcut 44) ?_
      conv => whnf
      refine ⟨Or.inl rfl, hQ2 fun j p y hj => hf j p y (by have := (List.getElem?_eq_some_iff.mp hj).1; omega) hj⟩
    | succ n ih =>
      intro i hi hn hf
      have hil : i < L.length := by omega
      obtain ⟨⟨p, y⟩, hp⟩ : ∃ z, L[i]? = some z := ⟨L[i]'hil, List.getElem?_eq_getElem hil⟩
      have hc := h2 i p y hp
      have er : rv L i = .ref p := rv_at hp
      have t1 := ih (i + 1) (by omega) (by omega)
      rw [er]
      rcases rv_or L (i + 1) with ⟨n2, xn, en, hn2⟩ | ⟨en, hn2⟩ <;> rw [en] at hc t1
      all_goals
        refine from_wp 400 meth_J3_remove_2 (selfcut 44) ?_
        conv => whnf
        refine ⟨_, hc, _, rfl, _, rfl, ?_⟩
        conv => whnf
        refine ⟨_, hx, _, hsx, rfl, by omega, ?_⟩
        refine Runs_from meth_J39_equals (Nat.le_of_ble_eq_true rfl) (from_wp 400 meth_J39_equals nocut ?_)
        conv => whnf
        refine ⟨fun hh => ?_, fun hh => ?_⟩
        · subst hh
          conv => whnf
          refine ⟨Or.inr rfl, ?_⟩
          conv => whnf
          refine ⟨fun hh => absurd hh (by decide +kernel), fun _ => ?_⟩
          conv => whnf
          refine ⟨_, h1, _, rfl, rfl, by omega, ll_unlink h hp (by omega) fun g1 hL1 hpz hF1 => ?_⟩
          conv => whnf
          exact ⟨Or.inr rfl, hQ1 i p hp hf g1 hL1 hF1⟩
        · conv => whnf
          refine ⟨Or.inl rfl, ?_⟩
          conv => whnf
          refine ⟨fun _ => ?_, fun hh => absurd (by decide +kernel) hh⟩
          conv => whnf
          refine ⟨_, hc, _, rfl, _, rfl, ?_⟩
          conv => whnf
          refine ⟨trivial, t1 fun j q z hj hq => ?_⟩
          by_cases e : j = i
          · subst e
            rw [hp] at hq
            cases hq
            exact fun e => hh e.symm
          · exact hf j q z (by omega) hq
  have t0 := loop L.length 0 (by omega) (by omega) (fun j q y hj => by omega)
  rcases rv_or L 0 with ⟨n, xn, en, hn⟩ | ⟨en, hn⟩ <;> rw [en] at h1 t0
  all_goals
    refine Runs_from meth_J3_remove_2 (Nat.le_of_ble_eq_true rfl) (from_wp 400 meth_J3_remove_2 (selfcut 44) ?_)
    conv => whnf
    refine ⟨_, h1, _, rfl, _, rfl, ?_⟩
    conv => whnf
    exact ⟨trivial, t0⟩
end LLT
