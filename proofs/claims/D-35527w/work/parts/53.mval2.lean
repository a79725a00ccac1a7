/-! The model's values: made -/
section MV2
variable {E : Ev} {g : Hp} {a d : Nat} {Q : Post} {X : XPost}
theorem mv_init {k z sfe : Int32} {t l : Nat} (h : g.2 a = some (22, [.int (nI 0), .int (nI 0), .null, .int (nI 0), .null], some a)) (hs : Nrw 1 sfe) (hd : 1 ≤ d) (hQ : ∀ g', Put g g' a (22, [.int k, .int z, .ref t, .int sfe, .ref l], some a) → Q none g') : Runs E 201 [.ref a, .int k, .int z, .ref t, .int sfe, .ref l] g d Q X := by
  refine Runs_from meth_X24_init (Nat.le_of_ble_eq_true rfl) (from_wp 400 meth_X24_init nocut ?_)
  conv => whnf
  refine ⟨rfl, by omega, ?_⟩
  conv => whnf
  refine ⟨_, _, _, h, rfl, _, rfl, by simp, trivial, fun g1 hp1 => ?_⟩
  conv => whnf
  refine ⟨_, _, _, hp1.2.1, rfl, _, rfl, by simp, trivial, fun g2 hp2 => ?_⟩
  conv => whnf
  refine ⟨_, _, _, hp2.2.1, rfl, _, rfl, by simp, trivial, fun g3 hp3 => ?_⟩
  conv => whnf
  refine ⟨_, _, _, hp3.2.1, rfl, _, rfl, by simp, hs, fun g4 hp4 => ?_⟩
  conv => whnf
  refine ⟨_, _, _, hp4.2.1, rfl, _, rfl, by simp, trivial, fun g5 hp5 => ?_⟩
  conv => whnf
  exact ⟨trivial, hQ g5 ((((hp1.tr hp2).tr hp3).tr hp4).tr hp5)⟩
/-- a value made and frozen -/
theorem mv_frz {g1 g2 : Hp} {a' : Nat} {v : Vl} {t l : Nat} {df : List Value} (hn : New g g1 a' (22, df, some a') 5) (hp : Put g1 g2 a' (22, [.int (nI (kd v)), .int (zI (nm v)), .ref t, .int (nI (sf v).toNat), .ref l], some a')) (ht : Str g t (tx v)) (hl : ML g l v.2) : MV (frzG g2 (fun w => w = a')) a' v ∧ Fr (fun _ => False) 10 g (frzG g2 (fun w => w = a')) := by
  have hF := Fr.new0 (S := fun _ => False) (hn.put hp) (Fr.frzG (P := fun w => w = a') (g := g2))
  have hF := hF.weak (S' := fun _ => False) (n' := 10) (fun w hw => Or.inl hw) (by omega)
  exact ⟨⟨t, l, frzG_at hp.2.1 rfl, ht.fr hF, hl.fr hF⟩, hF⟩
theorem GL.ml {E : Ev} {g : Hp} (h : GL E g) : ML g (sa E 15) [] := by
  obtain ⟨e, v, h1, h2⟩ := h.2.2.2.2.1
  exact Or.inl ⟨rfl, e, v, h1, h2⟩
theorem list_of (hQ : Q (some (.ref (sa E 15))) g) : Runs E 200 [] g d Q X := by
  refine Runs_from meth_J36_of (Nat.le_of_ble_eq_true rfl) (from_wp 400 meth_J36_of nocut ?_)
  conv => whnf
  exact ⟨trivial, hQ⟩
theorem mv_none (hG : GL E g) (hd : 2 ≤ d) (hL : g.1 + 10 ≤ LIM) (hQ : ∀ a' g', MV g' a' vNo → Fr (fun _ => False) 10 g g' → Q (some (.ref a')) g') : Runs E 203 [] g d Q X := by
  refine Runs.post_ghost ?_
  refine Runs_from meth_X24_none (Nat.le_of_ble_eq_true rfl) (from_wp 400 meth_X24_none nocut ?_)
  conv => whnf
  refine ⟨(by simp only [List.length_cons, List.length_nil]; omega), fun a' ha' => ⟨a', fun g1 hn => ?_⟩⟩
  conv => whnf
  have ha' := hn.2.2.1
  refine ⟨rfl, by omega, list_of ?_⟩
  conv => whnf
  refine ⟨⟨_, ha', Nat.le_of_ble_eq_true rfl⟩, rfl, by omega, mv_init ha' (Or.inr rfl) (by omega) fun g2 hp2 => ?_⟩
  conv => whnf
  obtain ⟨r1, r2⟩ := mv_frz (v := vNo) hn hp2 (hG.lit 21 rfl) hG.ml
  exact ⟨trivial, _, frzG_rlb _ _, hQ a' _ r1 r2⟩
theorem mv_ofN {z : Int} (hz : z.natAbs < 2 ^ 30) (hG : GL E g) (hd : 6 ≤ d) (hL : g.1 + 12 ≤ LIM) (hQ : ∀ v, ofN z = .inr v → ∀ a' g', MV g' a' v → Fr (fun _ => False) 12 g g' → Q (some (.ref a')) g') (hX : ofN z = .inl 2 → ∀ a' g', Slp g' a' 2 → Fr (fun _ => False) 12 g g' → X 24 a' g') : Runs E 204 [.int (zI z)] g d Q X := by
  have c1 : cst [0, 9999] = zI (-9999) := by decide +kernel
  have c2 : cst [9999] = zI 9999 := by decide +kernel
  have tail1 : ¬ (-9999 ≤ z ∧ z ≤ 9999) → From E 204 "QuillplateModel$Value" false d (fun v g' => ∃ g2, Rlb g' g2 ∧ Q v g2) X 14 [some (.inl (.int (zI z)))] [] g := by
    intro h
    have hX := hX (if_neg h)
    refine from_wp 400 meth_X24_of nocut ?_
    conv => whnf
    refine ⟨(by simp only [List.length_cons, List.length_nil]; omega), fun a' ha' => ⟨a', fun g1 hn => ?_⟩⟩
    conv => whnf
    have ha' := hn.2.2.1
    refine ⟨⟨_, ha', Nat.le_of_ble_eq_true rfl⟩, rfl, by omega, slip_init ha' (by omega) fun g2 hs2 hF2 => ?_⟩
    conv => whnf
    obtain ⟨o, hs⟩ := id hs2
    refine ⟨24, _, _, hs, by omega, ?_⟩
    conv => whnf
    exact ⟨trivial, hX a' g2 hs2 ((Fr.new0 (S := fun _ => False) hn hF2).weak (fun w hw => Or.inl hw) (by simp only [List.length_cons, List.length_nil]; omega))⟩
  refine Runs.post_ghost ?_
  refine Runs_from meth_X24_of (Nat.le_of_ble_eq_true rfl) (from_wp 400 meth_X24_of (selfcut 14) ?_)
  conv => whnf
  rw [c1, c2]
  refine ⟨fun hh => ?_, fun hh => ?_⟩
  · rw [zI_lt (by omega) (by omega)] at hh
    conv => whnf
    exact ⟨trivial, tail1 (by omega)⟩
  rw [zI_lt (by omega) (by omega)] at hh
  conv => whnf
  rw [c2]
  refine ⟨fun h2 => ?_, fun h2 => ?_⟩
  · rw [zI_le (by omega) (by omega)] at h2
    have hQ := hQ (vNum z) (if_pos ⟨by omega, h2⟩)
    conv => whnf
    refine ⟨(by simp only [List.length_cons, List.length_nil]; omega), fun a' ha' => ⟨a', fun g1 hn => ?_⟩⟩
    conv => whnf
    have ha' := hn.2.2.1
    refine ⟨rfl, by omega, list_of ?_⟩
    conv => whnf
    refine ⟨⟨_, ha', Nat.le_of_ble_eq_true rfl⟩, rfl, by omega, mv_init ha' (Or.inr rfl) (by omega) fun g2 hp2 => ?_⟩
    conv => whnf
    obtain ⟨r1, r2⟩ := mv_frz (v := vNum z) hn hp2 (hG.lit 21 rfl) hG.ml
    exact ⟨trivial, _, frzG_rlb _ _, hQ a' _ r1 (r2.weak (fun w hw => Or.inl hw) (by omega))⟩
  · rw [zI_le (by omega) (by omega)] at h2
    conv => whnf
    exact ⟨trivial, tail1 (by omega)⟩
theorem mv_ofT {t : Nat} {s : List Nat} {b : Bool} (ht : Str g t s) (hG : GL E g) (hd : 6 ≤ d) (hL : g.1 + 12 ≤ LIM) (hQ : ∀ v, ofT s b = .inr v → ∀ a' g', MV g' a' v → Fr (fun _ => False) 12 g g' → Q (some (.ref a')) g') (hX : ofT s b = .inl 2 → ∀ a' g', Slp g' a' 2 → Fr (fun _ => False) 12 g g' → X 24 a' g') : Runs E 207 [.ref t, .int (nI b.toNat)] g d Q X := by
  obtain ⟨tb, u1, v1, t1, t2, t3, t4⟩ := id ht
  have hb : Nrw 1 (nI b.toNat) := by cases b; exact Or.inl rfl; exact Or.inr rfl
  refine Runs.post_ghost ?_
  refine Runs_from meth_X24_of_2 (Nat.le_of_ble_eq_true rfl) (from_wp 400 meth_X24_of_2 nocut ?_)
  conv => whnf
  refine ⟨_, t1, _, rfl, rfl, by omega, str_length ht (by omega) ?_⟩
  conv => whnf
  refine ⟨fun hh => ?_, fun hh => ?_⟩
  · have hh : s.length ≤ 40 := (nI_leI (by omega) (by omega)).mp hh
    have hQ := hQ (vTxt s b) (if_pos hh)
    conv => whnf
    refine ⟨(by simp only [List.length_cons, List.length_nil]; omega), fun a' ha' => ⟨a', fun g1 hn => ?_⟩⟩
    conv => whnf
    have ha' := hn.2.2.1
    refine ⟨rfl, by omega, list_of ?_⟩
    conv => whnf
    refine ⟨⟨_, ha', Nat.le_of_ble_eq_true rfl⟩, rfl, by omega, mv_init ha' hb (by omega) fun g2 hp2 => ?_⟩
    conv => whnf
    obtain ⟨r1, r2⟩ := mv_frz (v := vTxt s b) hn hp2 ht hG.ml
    exact ⟨trivial, _, frzG_rlb _ _, hQ a' _ r1 (r2.weak (fun w hw => Or.inl hw) (by omega))⟩
  · have hh : ¬ s.length ≤ 40 := fun e => hh ((nI_leI (by omega) (by omega)).mpr e)
    have hX := hX (if_neg hh)
    conv => whnf
    refine ⟨(by simp only [List.length_cons, List.length_nil]; omega), fun a' ha' => ⟨a', fun g1 hn => ?_⟩⟩
    conv => whnf
    have ha' := hn.2.2.1
    refine ⟨⟨_, ha', Nat.le_of_ble_eq_true rfl⟩, rfl, by omega, slip_init ha' (by omega) fun g2 hs2 hF2 => ?_⟩
    conv => whnf
    obtain ⟨o, hs⟩ := id hs2
    refine ⟨24, _, _, hs, by omega, ?_⟩
    conv => whnf
    exact ⟨trivial, hX a' g2 hs2 ((Fr.new0 (S := fun _ => False) hn hF2).weak (fun w hw => Or.inl hw) (by simp only [List.length_cons, List.length_nil]; omega))⟩
theorem mv_ofL {l : Nat} {xs : List Sc} (hl : ML g l xs) (hG : GL E g) (hd : 2 ≤ d) (hL : g.1 + 10 ≤ LIM) (hQ : ∀ a' g', MV g' a' (vLst xs) → Fr (fun _ => False) 10 g g' → Q (some (.ref a')) g') : Runs E 220 [.ref l] g d Q X := by
  refine Runs.post_ghost ?_
  refine Runs_from meth_X24_of_3 (Nat.le_of_ble_eq_true rfl) (from_wp 400 meth_X24_of_3 nocut ?_)
  conv => whnf
  refine ⟨(by simp only [List.length_cons, List.length_nil]; omega), fun a' ha' => ⟨a', fun g1 hn => ?_⟩⟩
  conv => whnf
  have ha' := hn.2.2.1
  refine ⟨⟨_, ha', Nat.le_of_ble_eq_true rfl⟩, rfl, by omega, mv_init ha' (Or.inr rfl) (by omega) fun g2 hp2 => ?_⟩
  conv => whnf
  obtain ⟨r1, r2⟩ := mv_frz (v := vLst xs) hn hp2 (hG.lit 21 rfl) hl
  exact ⟨trivial, _, frzG_rlb _ _, hQ a' _ r1 r2⟩
end MV2
