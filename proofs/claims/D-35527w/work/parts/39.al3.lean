/-! ArrayList: constructors, iterators, removal -/
def ItA (g : Hp) (a it : Nat) (l : List Value) (i : Nat) (o : Option Nat) : Prop := ∃ mc b tl ob lr, g.2 a = some (28, [.int mc, .ref b, .int (nI l.length)], o) ∧ g.2 b = some (105, l ++ tl, ob) ∧ (ob = o ∨ (ob = none ∧ l ++ tl = [])) ∧ (l ++ tl).length < 2 ^ 20 ∧ g.2 it = some (29, [.int (nI i), .int lr, .int mc, .ref a], some it)
section AL3
variable {E : Ev} {g : Hp} {a d : Nat} {l : List Value} {o : Option Nat} {Q : Post} {X : XPost}
theorem al_init2 {v : Value} {z mc : Int32} (h : g.2 a = some (28, [.int mc, v, .int (nI 0)], some a)) (hG : GL E g) (hd : 3 ≤ d) (hQ : ∀ g', ALc g' a [] 0 → Fr (fun w => w = a) 0 g g' → Q none g') : Runs E 194 [.ref a] g d Q X := by
  have hE := hG.2.1
  have hF := Fr.refl (S := (fun w => w = a)) (n := 0) (g := g)
  refine Runs_from meth_J9_init_2 (Nat.le_of_ble_eq_true rfl) (from_wp 400 meth_J9_init_2 nocut ?_)
  conv => whnf
  refine ⟨⟨_, h, Nat.le_of_ble_eq_true rfl⟩, rfl, by omega, ?_⟩
  refine Runs_from meth_J1_init (Nat.le_of_ble_eq_true rfl) (from_wp 400 meth_J1_init nocut ?_)
  conv => whnf
  refine ⟨⟨_, h, Nat.le_of_ble_eq_true rfl⟩, rfl, by omega, ?_⟩
  refine Runs_from meth_J0_init (Nat.le_of_ble_eq_true rfl) (from_wp 400 meth_J0_init nocut ?_)
  conv => whnf
  refine ⟨rfl, by omega, ?_⟩
  conv => whnf
  refine ⟨trivial, ?_⟩
  conv => whnf
  refine ⟨_, _, _, h, rfl, _, rfl, by simp, trivial, fun g1 hp1 => ?_⟩
  conv => whnf
  have hE := (hp1.2.2 _ (ne_tag h hE rfl)).trans hE
  have hF := hF.trans (Fr.put (S := (fun w => w = a)) h hp1 (Or.inl rfl)) (fun w hw => Or.inl hw)
  have h := hp1.2.1
  dsimp only [List.set] at h
  refine ⟨trivial, ?_⟩
  conv => whnf
  refine ⟨_, _, _, h, rfl, _, rfl, by simp, trivial, fun g2 hp2 => ?_⟩
  conv => whnf
  have hE := (hp2.2.2 _ (ne_tag h hE rfl)).trans hE
  have hF := hF.trans (Fr.put (S := (fun w => w = a)) h hp2 (Or.inl rfl)) (fun w hw => Or.inl hw)
  have h := hp2.2.1
  dsimp only [List.set] at h
  exact ⟨trivial, hQ g2 ⟨_, _, [], none, h, hE, Or.inr ⟨rfl, rfl⟩, rfl, by omega⟩ hF⟩
theorem al_init0 {v : Value} {mc : Int32} (h : g.2 a = some (28, [.int mc, v, .int (nI 0)], some a)) (hG : GL E g) (hd : 3 ≤ d) (hQ : ∀ g', ALc g' a [] 0 → Fr (fun w => w = a) 0 g g' → Q none g') : Runs E 216 [.ref a, .int (nI 0)] g d Q X := by
  have hE := hG.2.2.1
  have hF := Fr.refl (S := (fun w => w = a)) (n := 0) (g := g)
  refine Runs_from meth_J9_init (Nat.le_of_ble_eq_true rfl) (from_wp 400 meth_J9_init nocut ?_)
  conv => whnf
  refine ⟨⟨_, h, Nat.le_of_ble_eq_true rfl⟩, rfl, by omega, ?_⟩
  refine Runs_from meth_J1_init (Nat.le_of_ble_eq_true rfl) (from_wp 400 meth_J1_init nocut ?_)
  conv => whnf
  refine ⟨⟨_, h, Nat.le_of_ble_eq_true rfl⟩, rfl, by omega, ?_⟩
  refine Runs_from meth_J0_init (Nat.le_of_ble_eq_true rfl) (from_wp 400 meth_J0_init nocut ?_)
  conv => whnf
  refine ⟨rfl, by omega, ?_⟩
  conv => whnf
  refine ⟨trivial, ?_⟩
  conv => whnf
  refine ⟨_, _, _, h, rfl, _, rfl, by simp, trivial, fun g1 hp1 => ?_⟩
  conv => whnf
  have hE := (hp1.2.2 _ (ne_tag h hE rfl)).trans hE
  have hF := hF.trans (Fr.put (S := (fun w => w = a)) h hp1 (Or.inl rfl)) (fun w hw => Or.inl hw)
  have h := hp1.2.1
  dsimp only [List.set] at h
  refine ⟨trivial, ?_⟩
  conv => whnf
  refine ⟨fun _ => ?_, fun hh => absurd (by decide +kernel) hh⟩
  conv => whnf
  refine ⟨fun hh => absurd hh (by decide +kernel), fun _ => ?_⟩
  conv => whnf
  refine ⟨_, _, _, h, rfl, _, rfl, by simp, trivial, fun g2 hp2 => ?_⟩
  conv => whnf
  have hE := (hp2.2.2 _ (ne_tag h hE rfl)).trans hE
  have hF := hF.trans (Fr.put (S := (fun w => w = a)) h hp2 (Or.inl rfl)) (fun w hw => Or.inl hw)
  have h := hp2.2.1
  dsimp only [List.set] at h
  exact ⟨trivial, hQ g2 ⟨_, _, [], none, h, hE, Or.inr ⟨rfl, rfl⟩, rfl, by omega⟩ hF⟩
theorem al_iterator (h : AL g a l o) (hd : 3 ≤ d) (hL : g.1 + 9 ≤ LIM) (hQ : ∀ g' it, g.2 it = none → ItA g' a it l 0 o → Fr (fun _ => False) 9 g g' → Q (some (.ref it)) g') : Runs E 414 [.ref a] g d Q X := by
  obtain ⟨mc, b, tl, ob, h1, h2, h3, h4⟩ := h
  refine Runs_from meth_J9_iterator (Nat.le_of_ble_eq_true rfl) (from_wp 400 meth_J9_iterator nocut ?_)
  conv => whnf
  refine ⟨(by simp only [List.length_cons, List.length_nil]; omega), fun it hit0 => ⟨it, fun g1 hn => ?_⟩⟩
  conv => whnf
  have h1 := (hn.2.2.2 _ (ne_new hit0 h1)).trans h1
  have h2 := (hn.2.2.2 _ (ne_new hit0 h2)).trans h2
  have hit := hn.2.2.1
  refine ⟨⟨_, hit, Nat.le_of_ble_eq_true rfl⟩, rfl, by omega, ?_⟩
  refine Runs_from meth_J29_init (Nat.le_of_ble_eq_true rfl) (from_wp 400 meth_J29_init nocut ?_)
  conv => whnf
  refine ⟨_, _, _, hit, rfl, _, rfl, by simp, trivial, fun g2 hp2 => ?_⟩
  conv => whnf
  have h1 := (hp2.2.2 _ (ne_tag hit h1 rfl)).trans h1
  have h2 := (hp2.2.2 _ (ne_tag hit h2 rfl)).trans h2
  have hit := hp2.2.1
  dsimp only [List.set] at hit
  refine ⟨rfl, by omega, ?_⟩
  conv => whnf
  refine ⟨_, _, _, hit, rfl, _, rfl, by simp, trivial, fun g3 hp3 => ?_⟩
  conv => whnf
  have h1 := (hp3.2.2 _ (ne_tag hit h1 rfl)).trans h1
  have h2 := (hp3.2.2 _ (ne_tag hit h2 rfl)).trans h2
  have hit := hp3.2.1
  dsimp only [List.set] at hit
  refine ⟨_, hit, _, rfl, _, rfl, ?_⟩
  conv => whnf
  refine ⟨_, h1, _, rfl, _, rfl, ?_⟩
  conv => whnf
  refine ⟨_, _, _, hit, rfl, _, rfl, by simp, trivial, fun g4 hp4 => ?_⟩
  conv => whnf
  have h1 := (hp4.2.2 _ (ne_tag hit h1 rfl)).trans h1
  have h2 := (hp4.2.2 _ (ne_tag hit h2 rfl)).trans h2
  have hit := hp4.2.1
  dsimp only [List.set] at hit
  refine ⟨trivial, ?_⟩
  conv => whnf
  have hn4 := ((hn.put hp2).put hp3).put hp4
  exact ⟨trivial, hQ g4 it hit0 ⟨mc, b, tl, ob, _, h1, h2, h3, h4, hit⟩ (Fr.new hn4)⟩
theorem it_hasNext {it i : Nat} (h : ItA g a it l i o) (hi : i < 2 ^ 31) (hQ : Q (some (.int (nI (if i = l.length then 0 else 1)))) g) : Runs E 392 [.ref it] g d Q X := by
  obtain ⟨mc, b, tl, ob, lr, h1, h2, h3, h4, hit⟩ := h
  rw [List.length_append] at h4
  refine Runs_from meth_J29_hasNext (Nat.le_of_ble_eq_true rfl) (from_wp 400 meth_J29_hasNext nocut ?_)
  conv => whnf
  refine ⟨_, hit, _, rfl, _, rfl, ?_⟩
  conv => whnf
  refine ⟨_, hit, _, rfl, _, rfl, ?_⟩
  conv => whnf
  refine ⟨_, h1, _, rfl, _, rfl, ?_⟩
  conv => whnf
  refine ⟨fun hh => ?_, fun hh => ?_⟩
  all_goals
    rw [nI_eq (by omega) (by omega)] at hh
    conv => whnf
  · rw [if_pos hh] at hQ; exact ⟨Or.inl rfl, hQ⟩
  · rw [if_neg hh] at hQ; exact ⟨Or.inr rfl, hQ⟩
theorem it_next {it i : Nat} {v : Value} (h : ItA g a it l i o) (hv : l[i]? = some v) (hr : v = .null ∨ ∃ x, v = .ref x) (hd : 2 ≤ d) (hQ : ∀ g', ItA g' a it l (i + 1) o → Fr (fun w => w = it) 0 g g' → Q (some v) g') : Runs E 393 [.ref it] g d Q X := by
  obtain ⟨mc, b, tl, ob, lr, h1, h2, h3, h4, hit⟩ := h
  have h5 := h4
  rw [List.length_append] at h5
  have hi := (List.getElem?_eq_some_iff.mp hv).1
  have hF := Fr.refl (S := (fun w => w = it)) (n := 0) (g := g)
  refine Runs_from meth_J29_next (Nat.le_of_ble_eq_true rfl) (from_wp 400 meth_J29_next nocut ?_)
  conv => whnf
  refine ⟨_, hit, _, rfl, rfl, by omega, ?_⟩
  refine Runs_from meth_J29_checkForComodification (Nat.le_of_ble_eq_true rfl) (from_wp 400 meth_J29_checkForComodification nocut ?_)
  conv => whnf
  refine ⟨_, hit, _, rfl, _, rfl, ?_⟩
  conv => whnf
  refine ⟨_, h1, _, rfl, _, rfl, ?_⟩
  conv => whnf
  refine ⟨_, hit, _, rfl, _, rfl, ?_⟩
  conv => whnf
  refine ⟨fun _ => ?_, fun hh => absurd rfl hh⟩
  conv => whnf
  refine ⟨trivial, ?_⟩
  conv => whnf
  refine ⟨_, hit, _, rfl, _, rfl, ?_⟩
  conv => whnf
  refine ⟨_, hit, _, rfl, _, rfl, ?_⟩
  conv => whnf
  refine ⟨_, h1, _, rfl, _, rfl, ?_⟩
  conv => whnf
  refine ⟨fun _ => ?_, fun hh => absurd (by simp (disch := omega) only [cst, ne_eq, nI_add, nI_ltI, nI_leI, nI_eq]; omega) hh⟩
  conv => whnf
  refine ⟨_, hit, _, rfl, _, rfl, ?_⟩
  conv => whnf
  refine ⟨_, h1, _, rfl, _, rfl, ?_⟩
  conv => whnf
  refine ⟨_, h2, Nat.le_of_ble_eq_true rfl, by show (l ++ tl).length < _; omega, ?_⟩
  conv => whnf
  dsimp only
  refine ⟨fun _ => ?_, fun hh => absurd (by rw [nI_ltI (by omega) (by omega), List.length_append]; omega) hh⟩
  conv => whnf
  simp only [cst, nI_add]
  refine ⟨_, _, _, hit, rfl, _, rfl, by simp, trivial, fun g1 hp1 => ?_⟩
  conv => whnf
  have h1 := (hp1.2.2 _ (ne_tag hit h1 rfl)).trans h1
  have h2 := (hp1.2.2 _ (ne_tag hit h2 rfl)).trans h2
  have hF := hF.trans (Fr.put (S := (fun w => w = it)) hit hp1 (Or.inl rfl)) (fun w hw => Or.inl hw)
  have hit := hp1.2.1
  dsimp only [List.set] at hit
  refine ⟨_, _, _, hit, rfl, _, rfl, by simp, trivial, fun g2 hp2 => ?_⟩
  conv => whnf
  have h1 := (hp2.2.2 _ (ne_tag hit h1 rfl)).trans h1
  have h2 := (hp2.2.2 _ (ne_tag hit h2 rfl)).trans h2
  have hF := hF.trans (Fr.put (S := (fun w => w = it)) hit hp2 (Or.inl rfl)) (fun w hw => Or.inl hw)
  have hit := hp2.2.1
  dsimp only [List.set] at hit
  have hn : nth (l ++ tl) i = some v := nth_app (by rw [nth_eq]; exact hv)
  refine ⟨_, h2, Nat.le_refl 105, i, rfl, by omega, v, hn, ?_⟩
  rcases hr with rfl | ⟨x, rfl⟩
  all_goals
    conv => whnf
    exact ⟨trivial, hQ g2 ⟨mc, b, tl, ob, _, h1, h2, h3, h4, hit⟩ hF⟩
end AL3
