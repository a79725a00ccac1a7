/-! java.util.BitSet, of less than nine bits -/
def BS (g : Hp) (a R : Nat) (o : Option Nat) : Prop := ∃ w sk, g.2 a = some (34, [.ref w, .int (nI (if R = 0 then 0 else 1)), .int sk], o) ∧ g.2 w = some (104, [.long (lN R)], o) ∧ R < 512
theorem BS.fr {S : Nat → Prop} {k R : Nat} {o : Option Nat} {g g' : Hp} {a : Nat} (h : BS g a R o) (hf : Fr S k g g') (hp : prot S g o) : BS g' a R o := by
  obtain ⟨w, sk, h1, h2, h3⟩ := h
  exact ⟨w, sk, hf.1 _ _ _ _ h1 hp, hf.1 _ _ _ _ h2 hp, h3⟩
theorem lN_or (a b : Nat) : lN a ||| lN b = lN (a ||| b) := by
  apply Int64.toBitVec_inj.mp
  show (Int64.ofNat a ||| Int64.ofNat b).toBitVec = (Int64.ofNat (a ||| b)).toBitVec
  rw [Int64.toBitVec_or]
  show BitVec.ofNat 64 a ||| BitVec.ofNat 64 b = BitVec.ofNat 64 (a ||| b)
  apply BitVec.eq_of_toNat_eq
  simp [Nat.or_mod_two_pow]
theorem lN_bit {i : Nat} (h : i < 9) : lN 1 <<< ((nI i).toInt64 &&& 63) = lN (2 ^ i) := by
  have h5 : ∀ i : Fin 9, lN 1 <<< ((nI i.val).toInt64 &&& 63) = lN (2 ^ i.val) := by decide +kernel
  exact h5 ⟨i, h⟩
theorem or_pos {R i : Nat} : R ||| 2 ^ i ≠ 0 := by
  intro h
  have h2 := congrArg (fun x => x.testBit i) h
  simp [Nat.testBit_or, Nat.testBit_two_pow_self] at h2
theorem or_lt {R i : Nat} (h : R < 512) (hi : i < 9) : R ||| 2 ^ i < 512 := by
  have : 2 ^ i < 2 ^ 9 := Nat.pow_lt_pow_right (by omega) hi
  exact Nat.or_lt_two_pow (n := 9) h this
theorem bit_get {R i : Nat} (hR : R < 512) (hi : i < 9) : lg_cmp (lN R &&& lN (2 ^ i)) (lN 0) = nI 0 ↔ R.testBit i = false := by
  have h5 : ∀ (R : Fin 512) (i : Fin 9), lg_cmp (lN R.val &&& lN (2 ^ i.val)) (lN 0) = nI 0 ↔ R.val.testBit i.val = false := by decide +kernel
  exact h5 ⟨R, hR⟩ ⟨i, hi⟩
theorem shr6 {i : Nat} (h : i < 64) : nI i >>> (nI 6 &&& 31) = nI 0 := by
  have h5 : ∀ i : Fin 64, nI i.val >>> (nI 6 &&& 31) = nI 0 := by decide +kernel
  exact h5 ⟨i, h⟩
section BSS
variable {E : Ev} {g : Hp} {a b d : Nat} {R : Nat} {Q : Post} {X : XPost}
theorem bs_inv {v : Value} {o : Option Nat} (hQ : Q none g) : Runs E 264 [.ref a] g d Q X := by
  refine Runs_from meth_J21_checkInvariants (Nat.le_of_ble_eq_true rfl) (from_wp 400 meth_J21_checkInvariants nocut ?_)
  conv => whnf
  refine ⟨fun _ => ?_, fun hh => absurd (by decide +kernel) hh⟩
  conv => whnf
  refine ⟨fun _ => ?_, fun hh => absurd (by decide +kernel) hh⟩
  conv => whnf
  refine ⟨fun _ => ?_, fun hh => absurd (by decide +kernel) hh⟩
  conv => whnf
  exact ⟨trivial, hQ⟩
theorem bs_init (h : g.2 a = some (34, [.null, .int (nI 0), .int (nI 0)], some a)) (hd : 4 ≤ d) (hL : g.1 + 6 ≤ LIM) (hQ : ∀ g', BS g' a 0 (some a) → Fr (fun w => w = a) 6 g g' → Q none g') : Runs E 213 [.ref a] g d Q X := by
  have hF := Fr.refl (S := (fun w => w = a)) (n := 0) (g := g)
  refine Runs_from meth_J21_init (Nat.le_of_ble_eq_true rfl) (from_wp 400 meth_J21_init nocut ?_)
  conv => whnf
  refine ⟨rfl, by omega, ?_⟩
  conv => whnf
  refine ⟨_, _, _, h, rfl, _, rfl, by simp, trivial, fun g1 hp1 => ?_⟩
  conv => whnf
  have hF := hF.trans (Fr.put (S := (fun w => w = a)) h hp1 (Or.inl rfl)) (fun w hw => Or.inl hw)
  have h := hp1.2.1
  dsimp only [List.set] at h
  refine ⟨_, _, _, h, rfl, _, rfl, by simp, Or.inl rfl, fun g2 hp2 => ?_⟩
  conv => whnf
  have hF := hF.trans (Fr.put (S := (fun w => w = a)) h hp2 (Or.inl rfl)) (fun w hw => Or.inl hw)
  have h := hp2.2.1
  dsimp only [List.set] at h
  have hg2 : g2.1 = g.1 := hp2.1.trans hp1.1
  refine ⟨_, h, _, rfl, rfl, by omega, ?_⟩
  refine Runs_from meth_J21_initWords (Nat.le_of_ble_eq_true rfl) (from_wp 400 meth_J21_initWords nocut ?_)
  conv => whnf
  refine ⟨rfl, by omega, ?_⟩
  refine Runs_from meth_J21_wordIndex (Nat.le_of_ble_eq_true rfl) (from_wp 400 meth_J21_wordIndex nocut ?_)
  conv => whnf
  refine ⟨trivial, ?_⟩
  conv => whnf
  have e1 : (cst [64] - cst [1]) >>> (cst [6] &&& 31) + cst [1] = nI 1 := by decide +kernel
  refine ⟨1, e1, by omega, by omega, fun w hw => ⟨a, fun g3 hn3 => ?_⟩⟩
  conv => whnf
  have hF := hF.trans (Fr.new (S := fun w => w = a) hn3) (fun w hw => Or.inl hw)
  have h := (hn3.2.2.2 _ (ne_new hw h)).trans h
  have hw3 : g3.2 w = some (104, [.long (lN 0)], some a) := hn3.2.2.1
  refine ⟨_, _, _, h, rfl, _, rfl, by simp, trivial, fun g4 hp4 => ?_⟩
  conv => whnf
  have hw3 := (hp4.2.2 _ (ne_tag h hw3 rfl)).trans hw3
  have hF := hF.trans (Fr.put (S := (fun w => w = a)) h hp4 (Or.inl rfl)) (fun w hw => Or.inl hw)
  have h := hp4.2.1
  dsimp only [List.set] at h
  refine ⟨trivial, ?_⟩
  conv => whnf
  refine ⟨_, _, _, h, rfl, _, rfl, by simp, Or.inl rfl, fun g5 hp5 => ?_⟩
  conv => whnf
  have hw3 := (hp5.2.2 _ (ne_tag h hw3 rfl)).trans hw3
  have hF := hF.trans (Fr.put (S := (fun w => w = a)) h hp5 (Or.inl rfl)) (fun w hw => Or.inl hw)
  have h := hp5.2.1
  dsimp only [List.set] at h
  exact ⟨trivial, hQ g5 ⟨w, _, h, hw3, by omega⟩ (hF.weak (fun w hw => Or.inl hw) (by omega))⟩
theorem bs_set {i : Nat} (h : BS g a R (some a)) (hi : i < 9) (hd : 4 ≤ d) (hQ : ∀ g', BS g' a (R ||| 2 ^ i) (some a) → Fr (fun w => w = a) 0 g g' → Q none g') : Runs E 464 [.ref a, .int (nI i)] g d Q X := by
  obtain ⟨w, sk, h1, h2, h3⟩ := h
  have fin : ∀ g1 : Hp, g1.2 a = some (34, [.ref w, .int (nI 1), .int sk], some a) → g1.2 w = some (104, [.long (lN R)], some a) → Fr (fun w => w = a) 0 g g1 → ∀ g2, Put g1 g2 w (104, [.long (lN (R ||| 2 ^ i))], some a) → Q none g2 := by
    intro g1 e1 e2 hF g2 hp
    refine hQ g2 ⟨w, sk, ?_, hp.2.1, or_lt h3 hi⟩ (hF.trans (Fr.put (S := fun w => w = a) e2 hp (Or.inl rfl)) fun w hw => Or.inl hw)
    rw [if_neg or_pos]
    exact (hp.2.2 _ (ne_tag e2 e1 rfl)).trans e1
  have hF := Fr.refl (S := (fun w => w = a)) (n := 0) (g := g)
  refine Runs_from meth_J21_set (Nat.le_of_ble_eq_true rfl) (from_wp 400 meth_J21_set nocut ?_)
  conv => whnf
  refine ⟨fun _ => ?_, fun hh => absurd (by simp (disch := omega) only [cst, ne_eq, nI_add, nI_ltI, nI_leI, nI_eq]; omega) hh⟩
  conv => whnf
  refine ⟨rfl, by omega, ?_⟩
  refine Runs_from meth_J21_wordIndex (Nat.le_of_ble_eq_true rfl) (from_wp 400 meth_J21_wordIndex nocut ?_)
  conv => whnf
  refine ⟨trivial, ?_⟩
  conv => whnf
  simp only [cst, shr6 (show i < 64 by omega)]
  refine ⟨_, h1, _, rfl, rfl, by omega, ?_⟩
  refine Runs_from meth_J21_expandTo (Nat.le_of_ble_eq_true rfl) (from_wp 400 meth_J21_expandTo nocut ?_)
  conv => whnf
  refine ⟨_, h1, _, rfl, _, rfl, ?_⟩
  conv => whnf
  by_cases hR : R = 0
  · subst hR
    rw [if_pos rfl] at h1 ⊢
    refine ⟨fun hh => absurd hh (by decide +kernel), fun _ => ?_⟩
    conv => whnf
    refine ⟨_, h1, _, rfl, rfl, by omega, ?_⟩
    refine Runs_from meth_J21_ensureCapacity (Nat.le_of_ble_eq_true rfl) (from_wp 400 meth_J21_ensureCapacity nocut ?_)
    conv => whnf
    refine ⟨_, h1, _, rfl, _, rfl, ?_⟩
    conv => whnf
    refine ⟨_, h2, Nat.le_of_ble_eq_true rfl, by first | omega | (dsimp only; omega) | (simp only [List.length_append]; omega) | (simp; omega) | simp, ?_⟩
    conv => whnf
    refine ⟨fun _ => ?_, fun hh => absurd (by show nI 0 + cst [1] ≤ nI 1; decide +kernel) hh⟩
    conv => whnf
    refine ⟨trivial, ?_⟩
    conv => whnf
    refine ⟨_, _, _, h1, rfl, _, rfl, by simp, trivial, fun g1 hp1 => ?_⟩
    conv => whnf
    have h2 := (hp1.2.2 _ (ne_tag h1 h2 rfl)).trans h2
    have hF := hF.trans (Fr.put (S := (fun w => w = a)) h1 hp1 (Or.inl rfl)) (fun w hw => Or.inl hw)
    have h1 := hp1.2.1
    dsimp only [List.set] at h1
    refine ⟨trivial, ?_⟩
    conv => whnf
    refine ⟨_, h1, _, rfl, _, rfl, ?_⟩
    conv => whnf
    refine ⟨_, h2, rfl, 0, rfl, by omega, _, rfl, ?_⟩
    conv => whnf
    refine ⟨_, _, _, h2, rfl, 0, rfl, by omega, by simp, fun g2 hp2 => ?_⟩
    conv => whnf
    refine ⟨_, (show g2.2 a = _ from (hp2.2.2 _ (ne_tag h2 h1 rfl)).trans h1), _, rfl, rfl, by omega, bs_inv (v := .null) (o := none) ?_⟩
    conv => whnf
    refine ⟨trivial, fin g1 h1 h2 hF g2 ?_⟩
    have e : cstL [1] <<< ((nI i).toInt64 &&& 63) = lN (2 ^ i) := lN_bit hi
    rw [e, lN_or] at hp2
    exact hp2
  · rw [if_neg hR] at h1 ⊢
    refine ⟨fun _ => ?_, fun hh => absurd (by decide +kernel) hh⟩
    conv => whnf
    refine ⟨trivial, ?_⟩
    conv => whnf
    refine ⟨_, h1, _, rfl, _, rfl, ?_⟩
    conv => whnf
    refine ⟨_, h2, rfl, 0, rfl, by omega, _, rfl, ?_⟩
    conv => whnf
    refine ⟨_, _, _, h2, rfl, 0, rfl, by omega, by simp, fun g2 hp2 => ?_⟩
    conv => whnf
    refine ⟨_, (show g2.2 a = _ from (hp2.2.2 _ (ne_tag h2 h1 rfl)).trans h1), _, rfl, rfl, by omega, bs_inv (v := .null) (o := none) ?_⟩
    conv => whnf
    refine ⟨trivial, fin g h1 h2 hF g2 ?_⟩
    have e : cstL [1] <<< ((nI i).toInt64 &&& 63) = lN (2 ^ i) := lN_bit hi
    rw [e, lN_or] at hp2
    exact hp2
theorem bs_get {i : Nat} {o : Option Nat} (h : BS g a R o) (hi : i < 9) (hd : 2 ≤ d) (hQ : Q (some (.int (nI (R.testBit i).toNat))) g) : Runs E 398 [.ref a, .int (nI i)] g d Q X := by
  obtain ⟨w, sk, h1, h2, h3⟩ := h
  refine Runs_from meth_J21_get (Nat.le_of_ble_eq_true rfl) (from_wp 400 meth_J21_get nocut ?_)
  conv => whnf
  refine ⟨fun _ => ?_, fun hh => absurd (by simp (disch := omega) only [cst, ne_eq, nI_add, nI_ltI, nI_leI, nI_eq]; omega) hh⟩
  conv => whnf
  refine ⟨_, h1, _, rfl, rfl, by omega, bs_inv (v := .null) (o := none) ?_⟩
  conv => whnf
  refine ⟨rfl, by omega, ?_⟩
  refine Runs_from meth_J21_wordIndex (Nat.le_of_ble_eq_true rfl) (from_wp 400 meth_J21_wordIndex nocut ?_)
  conv => whnf
  refine ⟨trivial, ?_⟩
  conv => whnf
  simp only [cst, shr6 (show i < 64 by omega)]
  refine ⟨_, h1, _, rfl, _, rfl, ?_⟩
  conv => whnf
  by_cases hR : R = 0
  · subst hR
    rw [Nat.zero_testBit] at hQ
    rw [if_pos rfl]
    refine ⟨fun _ => ?_, fun hh => absurd (by decide +kernel) hh⟩
    conv => whnf
    exact ⟨Or.inl rfl, hQ⟩
  · rw [if_neg hR]
    refine ⟨fun hh => absurd hh (by decide +kernel), fun _ => ?_⟩
    conv => whnf
    refine ⟨_, h1, _, rfl, _, rfl, ?_⟩
    conv => whnf
    refine ⟨_, h2, rfl, 0, rfl, by omega, _, rfl, ?_⟩
    conv => whnf
    have e : cstL [1] <<< ((nI i).toInt64 &&& 63) = lN (2 ^ i) := lN_bit hi
    rw [e]
    have hb := bit_get h3 hi
    cases ht : R.testBit i with
    | true =>
      rw [ht] at hQ
      refine ⟨fun hh => absurd hh (fun h => by rw [hb.mp h] at ht; cases ht), fun _ => ?_⟩
      conv => whnf
      exact ⟨Or.inr rfl, hQ⟩
    | false =>
      rw [ht] at hQ
      refine ⟨fun _ => ?_, fun hh => absurd (hb.mpr ht) hh⟩
      conv => whnf
      exact ⟨Or.inl rfl, hQ⟩
theorem bs_or {R2 : Nat} {o : Option Nat} (h : BS g a R (some a)) (h' : BS g b R2 o) (hab : ¬ a = b) (hd : 3 ≤ d) (hQ : ∀ g', BS g' a (R ||| R2) (some a) → Fr (fun w => w = a) 0 g g' → Q none g') : Runs E 478 [.ref a, .ref b] g d Q X := by
  obtain ⟨w, sk, h1, h2, h3⟩ := h
  obtain ⟨w', sk', k1, k2, k3⟩ := h'
  have hlt : R ||| R2 < 512 := Nat.or_lt_two_pow (n := 9) h3 k3
  have hor : ¬ R = 0 ∨ ¬ R2 = 0 → ¬ (R ||| R2 = 0) := by
    intro h e
    have := Nat.or_eq_zero_iff.mp e
    omega
  have fin : ∀ (g1 g2 : Hp), g1.2 a = some (34, [.ref w, .int (nI (if R ||| R2 = 0 then 0 else 1)), .int sk], some a) → ∀ c, g1.2 w = some (104, c, some a) → Fr (fun w => w = a) 0 g g1 → Put g1 g2 w (104, [.long (lN (R ||| R2))], some a) → Q none g2 := by
    intro g1 g2 e1 c e2 hF hp
    exact hQ g2 ⟨w, sk, (hp.2.2 _ (ne_tag e2 e1 rfl)).trans e1, hp.2.1, hlt⟩ (hF.trans (Fr.put (S := fun w => w = a) e2 hp (Or.inl rfl)) fun w hw => Or.inl hw)
  have hba : b ≠ a := fun e => hab e.symm
  have hF := Fr.refl (S := (fun w => w = a)) (n := 0) (g := g)
  refine Runs_from meth_J21_or (Nat.le_of_ble_eq_true rfl) (from_wp 400 meth_J21_or nocut ?_)
  conv => whnf
  refine ⟨fun h => absurd h hab, fun _ => ?_⟩
  conv => whnf
  refine ⟨_, h1, _, rfl, _, rfl, ?_⟩
  conv => whnf
  refine ⟨_, k1, _, rfl, _, rfl, ?_⟩
  conv => whnf
  refine ⟨rfl, by omega, math_min (by split <;> omega) (by split <;> omega) ?_⟩
  conv => whnf
  refine ⟨_, h1, _, rfl, _, rfl, ?_⟩
  conv => whnf
  refine ⟨_, k1, _, rfl, _, rfl, ?_⟩
  conv => whnf
  by_cases hR : R = 0 <;> by_cases hR2 : R2 = 0
  · subst hR; subst hR2
    rw [if_pos rfl] at *
    refine ⟨fun _ => ?_, fun hh => absurd (by decide +kernel) hh⟩
    conv => whnf
    refine ⟨fun _ => ?_, fun hh => absurd (by decide +kernel) hh⟩
    conv => whnf
    refine ⟨_, k1, _, rfl, _, rfl, ?_⟩
    conv => whnf
    refine ⟨fun _ => ?_, fun hh => absurd (by decide +kernel) hh⟩
    conv => whnf
    refine ⟨_, h1, _, rfl, rfl, by omega, bs_inv (v := .null) (o := none) ?_⟩
    conv => whnf
    exact ⟨trivial, hQ g ⟨w, sk, h1, h2, by omega⟩ hF⟩
  · subst hR
    rw [if_pos rfl] at h1 ⊢
    rw [if_neg hR2] at k1 ⊢
    refine ⟨fun hh => absurd hh (by decide +kernel), fun _ => ?_⟩
    conv => whnf
    refine ⟨_, k1, _, rfl, _, rfl, ?_⟩
    conv => whnf
    refine ⟨_, h1, _, rfl, rfl, by omega, ?_⟩
    refine Runs_from meth_J21_ensureCapacity (Nat.le_of_ble_eq_true rfl) (from_wp 400 meth_J21_ensureCapacity nocut ?_)
    conv => whnf
    refine ⟨_, h1, _, rfl, _, rfl, ?_⟩
    conv => whnf
    refine ⟨_, h2, Nat.le_of_ble_eq_true rfl, by first | omega | (dsimp only; omega) | (simp only [List.length_append]; omega) | (simp; omega) | simp, ?_⟩
    conv => whnf
    refine ⟨fun _ => ?_, fun hh => absurd (by show nI 1 ≤ nI 1; decide +kernel) hh⟩
    conv => whnf
    refine ⟨trivial, ?_⟩
    conv => whnf
    refine ⟨_, k1, _, rfl, _, rfl, ?_⟩
    conv => whnf
    refine ⟨_, _, _, h1, rfl, _, rfl, by simp, trivial, fun g1 hp1 => ?_⟩
    conv => whnf
    have h2 := (hp1.2.2 _ (ne_tag h1 h2 rfl)).trans h2
    have k1 := (hp1.2.2 _ hba).trans k1
    have k2 := (hp1.2.2 _ (ne_tag h1 k2 rfl)).trans k2
    have hF := hF.trans (Fr.put (S := (fun w => w = a)) h1 hp1 (Or.inl rfl)) (fun w hw => Or.inl hw)
    have h1 := hp1.2.1
    dsimp only [List.set] at h1
    refine ⟨fun _ => ?_, fun hh => absurd (by decide +kernel) hh⟩
    conv => whnf
    refine ⟨_, k1, _, rfl, _, rfl, ?_⟩
    conv => whnf
    refine ⟨fun hh => absurd hh (by decide +kernel), fun _ => ?_⟩
    conv => whnf
    refine ⟨_, k1, _, rfl, _, rfl, ?_⟩
    conv => whnf
    refine ⟨_, h1, _, rfl, _, rfl, ?_⟩
    conv => whnf
    refine ⟨_, h1, _, rfl, _, rfl, ?_⟩
    conv => whnf
    have e0 : nI 1 - nI (min 0 1) = nI 1 := by decide +kernel
    rw [e0]
    refine ⟨rfl, by omega, _, _, _, _, _, k2, h2, by omega, by omega, 1, 0, 0, rfl, rfl, rfl, by omega, by omega, by omega, by simp, by simp, fun g2 hp2 => ?_⟩
    conv => whnf
    refine ⟨_, (show g2.2 a = _ from (hp2.2.2 _ (ne_tag h2 h1 rfl)).trans h1), _, rfl, rfl, by omega, bs_inv (v := .null) (o := none) ?_⟩
    conv => whnf
    refine ⟨trivial, fin g1 g2 (by rw [if_neg (hor (Or.inr hR2))]; exact h1) _ h2 hF ?_⟩
    rw [Nat.zero_or]
    exact hp2
  · subst hR2
    rw [if_neg hR] at h1 ⊢
    rw [if_pos rfl] at k1 ⊢
    refine ⟨fun _ => ?_, fun hh => absurd (by decide +kernel) hh⟩
    conv => whnf
    refine ⟨fun _ => ?_, fun hh => absurd (by decide +kernel) hh⟩
    conv => whnf
    refine ⟨_, k1, _, rfl, _, rfl, ?_⟩
    conv => whnf
    refine ⟨fun _ => ?_, fun hh => absurd (by decide +kernel) hh⟩
    conv => whnf
    refine ⟨_, h1, _, rfl, rfl, by omega, bs_inv (v := .null) (o := none) ?_⟩
    conv => whnf
    refine ⟨trivial, hQ g ⟨w, sk, ?_, ?_, hlt⟩ hF⟩
    · rw [if_neg (hor (Or.inl hR))]; exact h1
    · rw [Nat.or_zero]; exact h2
  · rw [if_neg hR] at h1 ⊢
    rw [if_neg hR2] at k1 ⊢
    refine ⟨fun _ => ?_, fun hh => absurd (by decide +kernel) hh⟩
    conv => whnf
    refine ⟨fun hh => absurd hh (by decide +kernel), fun _ => ?_⟩
    conv => whnf
    refine ⟨_, h1, _, rfl, _, rfl, ?_⟩
    conv => whnf
    refine ⟨_, h2, rfl, 0, rfl, by omega, _, rfl, ?_⟩
    conv => whnf
    refine ⟨_, k1, _, rfl, _, rfl, ?_⟩
    conv => whnf
    refine ⟨_, k2, rfl, 0, rfl, by omega, _, rfl, ?_⟩
    conv => whnf
    refine ⟨_, _, _, h2, rfl, 0, rfl, by omega, by simp, fun g2 hp2 => ?_⟩
    conv => whnf
    refine ⟨fun _ => ?_, fun hh => absurd (by decide +kernel) hh⟩
    conv => whnf
    have hk1 : g2.2 b = _ := (hp2.2.2 _ (ne_tag h2 k1 rfl)).trans k1
    refine ⟨_, hk1, _, rfl, _, rfl, ?_⟩
    conv => whnf
    refine ⟨fun _ => ?_, fun hh => absurd (by decide +kernel) hh⟩
    conv => whnf
    refine ⟨_, (show g2.2 a = _ from (hp2.2.2 _ (ne_tag h2 h1 rfl)).trans h1), _, rfl, rfl, by omega, bs_inv (v := .null) (o := none) ?_⟩
    conv => whnf
    refine ⟨trivial, fin g g2 (by rw [if_neg (hor (Or.inr hR2))]; exact h1) _ h2 hF ?_⟩
    rw [lN_or] at hp2
    exact hp2
end BSS
