/-! what is there all along: String constants, empty arrays, enum constants, small Integers, digits -/
def LITT : List (List Nat) := [[32, 62, 32], [], [98, 105, 116, 73, 110, 100, 101, 120, 32, 60, 32, 48, 58, 32], [83, 111, 114, 114, 121, 44, 32, 100, 101, 113, 117, 101, 32, 116, 111, 111, 32, 98, 105, 103], [73, 110, 100, 101, 120, 58, 32], [44, 32, 83, 105, 122, 101, 58, 32], [], [73, 108, 108, 101, 103, 97, 108, 32, 67, 97, 112, 97, 99, 105, 116, 121, 58, 32], [73, 110, 100, 101, 120, 58, 32], [44, 32, 83, 105, 122, 101, 58, 32], [38, 97, 59], [38, 108, 59], [38, 103, 59], [38, 113, 59], [], [44], [85, 76, 67, 83, 74, 82, 68], [42, 36, 61], [35], [65, 66, 67, 68, 69, 70], [97, 98, 99, 100, 101, 102, 103, 104, 105, 110, 112], [], [101, 114, 114, 111, 114, 32], [65, 66, 67, 68, 69, 70], [], [38, 97, 59], [38, 113, 59], [38, 108, 59], [38, 103, 59], [], [], [44], [32, 60, 62, 34, 38, 61, 47, 39, 43, 124, 58, 33, 63, 42, 35, 94, 36, 64, 46, 44, 40, 41, 45, 123, 125], [], [102, 97, 117, 108, 116, 32, 97, 116, 32], [58, 32]]
def D1T : List Nat := [48, 49, 50, 51, 52, 53, 54, 55, 56, 57, 48, 49, 50, 51, 52, 53, 54, 55, 56, 57, 48, 49, 50, 51, 52, 53, 54, 55, 56, 57, 48, 49, 50, 51, 52, 53, 54, 55, 56, 57, 48, 49, 50, 51, 52, 53, 54, 55, 56, 57, 48, 49, 50, 51, 52, 53, 54, 55, 56, 57, 48, 49, 50, 51, 52, 53, 54, 55, 56, 57, 48, 49, 50, 51, 52, 53, 54, 55, 56, 57, 48, 49, 50, 51, 52, 53, 54, 55, 56, 57, 48, 49, 50, 51, 52, 53, 54, 55, 56, 57]
def D10T : List Nat := [48, 48, 48, 48, 48, 48, 48, 48, 48, 48, 49, 49, 49, 49, 49, 49, 49, 49, 49, 49, 50, 50, 50, 50, 50, 50, 50, 50, 50, 50, 51, 51, 51, 51, 51, 51, 51, 51, 51, 51, 52, 52, 52, 52, 52, 52, 52, 52, 52, 52, 53, 53, 53, 53, 53, 53, 53, 53, 53, 53, 54, 54, 54, 54, 54, 54, 54, 54, 54, 54, 55, 55, 55, 55, 55, 55, 55, 55, 55, 55, 56, 56, 56, 56, 56, 56, 56, 56, 56, 56, 57, 57, 57, 57, 57, 57, 57, 57, 57, 57]
def GL (E : Ev) (g : Hp) : Prop :=
  (∀ (k : Nat) (s : List Nat), nth LITT k = some s → Str g (la E k) s) ∧ g.2 (sa E 20) = some (105, [], none) ∧ g.2 (sa E 21) = some (105, [], none) ∧
  (∀ i j, 22 ≤ i → i < j → j ≤ 25 → sa E i ≠ sa E j) ∧
  (∃ e v, g.2 (sa E 15) = some (39, [.ref e, .int v], none) ∧ g.2 e = some (105, [], none)) ∧
  (∃ xs, g.2 (sa E 13) = some (111, xs, none) ∧ xs.length = 256 ∧ ∀ i, i < 256 → ∃ y, xs[i]? = some (.ref y) ∧ g.2 y = some (35, [.int (nI i - nI 128)], none)) ∧
  g.2 (sa E 9) = some (100, chv D1T, none) ∧ g.2 (sa E 10) = some (100, chv D10T, none) ∧ la E 1000 ≠ la E 1001
theorem GL.fr {E : Ev} {S : Nat → Prop} {n : Nat} {g g' : Hp} (h : GL E g) (hf : Fr S n g g') : GL E g' := by
  obtain ⟨h1, h2, h3, h4, ⟨e, v, h5, h5'⟩, ⟨xs, h6, h7, h8⟩, h9, h10, h11⟩ := h
  refine ⟨fun k s hk => (h1 k s hk).fr hf, hf.frz h2, hf.frz h3, h4, ⟨e, v, hf.frz h5, hf.frz h5'⟩, ⟨xs, hf.frz h6, h7, fun i hi => ?_⟩, hf.frz h9, hf.frz h10, h11⟩
  obtain ⟨y, q1, q2⟩ := h8 i hi
  exact ⟨y, q1, hf.frz q2⟩
theorem ne_tag {g : Hp} {a b : Nat} {c c' : Cel} (h : g.2 a = some c) (h' : g.2 b = some c') (ht : Nat.beq c.1 c'.1 = false) : b ≠ a := fun e => by
  rw [e, h] at h'
  cases h'
  simp at ht
theorem ne_new {g : Hp} {a b : Nat} {c : Cel} (h : g.2 a = none) (h' : g.2 b = some c) : b ≠ a := fun e => by
  rw [e, h] at h'
  cases h'
theorem GL.lit {E : Ev} {g : Hp} (h : GL E g) (k : Nat) {s : List Nat} (hk : nth LITT k = some s) : Str g (la E k) s := h.1 k s hk
theorem selfcut {E : Ev} {d : Nat} {Q : Post} {X : XPost} {own : String} {ini : Bool} {y : Nat} (q : Nat) : ∀ t I, lkp ([(q, fun L st g => From E y own ini d Q X q L st g)] : Cuts) t = some I → ∀ L st g, I L st g → From E y own ini d Q X t L st g := onecut fun _ _ _ h => h
