/-! Integer: valueOf, intValue, toString -/
def zI (z : Int) : Int32 := if z < 0 then - nI z.natAbs else nI z.natAbs
theorem neg_toInt {n : Nat} (h : n < 2 ^ 31) : (- nI n).toInt = - (n : Int) := by
  rw [Int32.toInt_neg, nI_toInt h, Int.bmod_def]
  omega
theorem zI_toInt {z : Int} (h : z.natAbs < 2 ^ 31) : (zI z).toInt = z := by
  unfold zI
  split
  · rw [neg_toInt h]; omega
  · rw [nI_toInt h]; omega
theorem zI_nat (n : Nat) : zI n = nI n := by
  unfold zI
  rw [if_neg (by omega)]
  rfl
theorem zI_eq {a b : Int} (ha : a.natAbs < 2 ^ 31) (hb : b.natAbs < 2 ^ 31) : zI a = zI b ↔ a = b := by
  rw [← Int32.toInt_inj, zI_toInt ha, zI_toInt hb]
theorem zI_lt {a b : Int} (ha : a.natAbs < 2 ^ 31) (hb : b.natAbs < 2 ^ 31) : zI a < zI b ↔ a < b := by
  rw [Int32.lt_iff_toInt_lt, zI_toInt ha, zI_toInt hb]
theorem zI_le {a b : Int} (ha : a.natAbs < 2 ^ 31) (hb : b.natAbs < 2 ^ 31) : zI a ≤ zI b ↔ a ≤ b := by
  rw [Int32.le_iff_toInt_le, zI_toInt ha, zI_toInt hb]
theorem zI_neg {z : Int} (h : z.natAbs < 2 ^ 31) : - zI z = zI (- z) := by
  apply Int32.toInt_inj.mp
  rw [Int32.toInt_neg, zI_toInt h, zI_toInt (by omega), Int.bmod_def]
  omega
theorem zI_add {a b : Int} (h : (a + b).natAbs < 2 ^ 31) (ha : a.natAbs < 2 ^ 31) (hb : b.natAbs < 2 ^ 31) : zI a + zI b = zI (a + b) := by
  apply Int32.toInt_inj.mp
  rw [Int32.toInt_add, zI_toInt h, zI_toInt ha, zI_toInt hb, Int.bmod_def]
  omega
theorem zI_sub {a b : Int} (h : (a - b).natAbs < 2 ^ 31) (ha : a.natAbs < 2 ^ 31) (hb : b.natAbs < 2 ^ 31) : zI a - zI b = zI (a - b) := by
  apply Int32.toInt_inj.mp
  rw [Int32.toInt_sub, zI_toInt h, zI_toInt ha, zI_toInt hb, Int.bmod_def]
  omega
theorem zI_mul {a b : Int} (h : (a * b).natAbs < 2 ^ 31) (ha : a.natAbs < 2 ^ 31) (hb : b.natAbs < 2 ^ 31) : zI a * zI b = zI (a * b) := by
  apply Int32.toInt_inj.mp
  rw [Int32.toInt_mul, zI_toInt h, zI_toInt ha, zI_toInt hb, Int.bmod_def]
  generalize a * b = c at h
  omega
theorem zI_negnI (n : Nat) : - nI n = zI (- (n : Int)) := by
  unfold zI
  split
  · rename_i h
    have : (- (n : Int)).natAbs = n := by omega
    rw [this]
  · have : n = 0 := by omega
    subst this
    rfl
theorem div100 {n : Nat} (h : n < 2 ^ 20) : (- nI n) / nI 100 = - nI (n / 100) := by
  apply Int32.toInt_inj.mp
  rw [Int32.toInt_div, neg_toInt (by omega), neg_toInt (by omega), nI_toInt (by omega), Int.neg_tdiv, Int.bmod_def, Int.tdiv_eq_ediv_of_nonneg (by omega)]
  omega
section INT
variable {E : Ev} {g : Hp} {a b d : Nat} {s t : List Nat} {Q : Post} {X : XPost}
theorem int_intValue {z : Int32} {o : Option Nat} (h : g.2 a = some (35, [.int z], o)) (hQ : Q (some (.int z)) g) : Runs E 262 [.ref a] g d Q X := by
  refine Runs_from meth_J20_intValue (Nat.le_of_ble_eq_true rfl) (from_wp 400 meth_J20_intValue nocut ?_)
  conv => whnf
  refine ⟨_, h, _, rfl, _, rfl, ?_⟩
  conv => whnf
  exact ⟨trivial, hQ⟩
/-- a boxed number -/
def Bx (g : Hp) (a n : Nat) : Prop := g.2 a = some (35, [.int (nI n)], none)
theorem Bx.fr {S : Nat → Prop} {k n : Nat} {g g' : Hp} {a : Nat} (h : Bx g a n) (hf : Fr S k g g') : Bx g' a n := hf.frz h
theorem int_valueOf {n : Nat} (hn : n < 2 ^ 31) (hG : GL E g) (hd : 3 ≤ d) (hL : g.1 + 6 ≤ LIM) (hQ : ∀ g' y, Bx g' y n → Fr (fun _ => False) 6 g g' → Q (some (.ref y)) g') : Runs E 193 [.int (nI n)] g d Q X := by
  refine Runs.post_ghost ?_
  have hc : nth LITT 0 = nth LITT 0 := rfl
  refine Runs_from meth_J20_valueOf (Nat.le_of_ble_eq_true rfl) (from_wp 400 meth_J20_valueOf nocut ?_)
  conv => whnf
  refine ⟨fun hh => absurd hh (by rw [Int32.not_lt]; show - nI 128 ≤ nI n; rw [Int32.le_iff_toInt_le, neg_toInt (by omega), nI_toInt hn]; omega), fun _ => ?_⟩
  conv => whnf
  refine ⟨fun hh => ?_, fun hh => ?_⟩
  · conv => whnf
    refine ⟨by show g.1 + 5 + 1 ≤ LIM; omega, fun y hy => ⟨y, fun g1 hn1 => ?_⟩⟩
    conv => whnf
    have h1 := hn1.2.2.1
    refine ⟨⟨_, h1, Nat.le_of_ble_eq_true rfl⟩, rfl, by omega, ?_⟩
    refine Runs_from meth_J20_init (Nat.le_of_ble_eq_true rfl) (from_wp 400 meth_J20_init nocut ?_)
    conv => whnf
    refine ⟨⟨_, h1, Nat.le_of_ble_eq_true rfl⟩, rfl, by omega, ?_⟩
    refine Runs_from meth_J19_init (Nat.le_of_ble_eq_true rfl) (from_wp 400 meth_J19_init nocut ?_)
    conv => whnf
    refine ⟨rfl, by omega, ?_⟩
    conv => whnf
    refine ⟨trivial, ?_⟩
    conv => whnf
    refine ⟨_, _, _, h1, rfl, _, rfl, by simp, trivial, fun g2 hp2 => ?_⟩
    conv => whnf
    refine ⟨trivial, ?_⟩
    conv => whnf
    refine ⟨trivial, frzG g2 (fun w => w = y), frzG_rlb _ _, hQ _ y (frzG_at hp2.2.1 rfl) ?_⟩
    exact (Fr.new0 (S := fun _ => False) hn1 ((Fr.put (S := fun w => w = y) h1 hp2 (Or.inl rfl)).trans Fr.frzG fun w hw => Or.inl hw)).weak (fun w (hw : False) => hw.elim) (by show 5 + 1 + _ ≤ _; omega)
  · have hh : ¬ 127 < n := fun e => hh ((nI_ltI (by omega) (by omega)).mpr e)
    obtain ⟨xs, h6, h7, h8⟩ := hG.2.2.2.2.2.1
    obtain ⟨y, q1, q2⟩ := h8 (n + 128) (by omega)
    conv => whnf
    simp only [cst, nI_add]
    refine ⟨_, h6, by show 105 ≤ 111; omega, n + 128, rfl, by omega, _, by rw [nth_eq]; exact q1, ?_⟩
    conv => whnf
    refine ⟨trivial, g, ⟨rfl, fun a h => h, fun a t fs o h => ⟨o, h, id⟩⟩, hQ g y ?_ Fr.refl⟩
    rw [nI_sub (by omega), Nat.add_sub_cancel] at q2
    exact q2
end INT
