/-! CONTRACTS: weaker posts, changes of owners, frames -/
section BASE
variable {E : Ev} {y : Nat} {As : List Value} {g g2 : Hp} {d : Nat} {Q Q' : Post} {X X' : XPost}
theorem Runs.mono (h : Runs E y As g d Q X) (hQ : ∀ v g', Q v g' → Q' v g') (hX : ∀ t a g', X t a g' → X' t a g') : Runs E y As g d Q' X' := by
  intro p e ha hc hk s m args below hf happ hP
  obtain ⟨n, o, h1, h2, h3, h4⟩ := h p e ha hc hk s m args below hf happ hP
  refine ⟨n, o, h1, h2, h3, ?_⟩
  rcases h4 with ⟨⟨v, g', e1, e2, e3⟩, hL⟩ | ⟨q, e1, En, ce, L, ⟨tt, fs, w, g', r, f1, f2, f3, f4, f5⟩, e3⟩
  · exact Or.inl ⟨⟨v, g', e1, e2, hQ _ _ e3⟩, hL⟩
  · exact Or.inr ⟨q, e1, En, ce, L, ⟨tt, fs, w, g', r, f1, f2, f3, f4, hX _ _ _ f5⟩, e3⟩
/-- owners may be changed as one likes, but what is frozen stays so -/
def Rlb (g g2 : Hp) : Prop := g2.1 = g.1 ∧ (∀ a, g.2 a = none → g2.2 a = none) ∧ ∀ a t fs o, g.2 a = some (t, fs, o) → ∃ o', g2.2 a = some (t, fs, o') ∧ (o = none → o' = none)
theorem Rlb.tag (h : Rlb g g2) {a : Nat} {c : Cel} (hc : g.2 a = some c) : ∃ c' : Cel, g2.2 a = some c' ∧ c'.1 = c.1 := by
  obtain ⟨t, fs, o⟩ := c
  obtain ⟨o', h1, -⟩ := h.2.2 a t fs o hc
  exact ⟨_, h1, rfl⟩
theorem Rlb.inv (h : Rlb g g2) {a t : Nat} {fs : List Value} {o' : Option Nat} (hc : g2.2 a = some (t, fs, o')) : ∃ o, g.2 a = some (t, fs, o) ∧ (o = none → o' = none) := by
  cases e : g.2 a with
  | none => rw [h.2.1 a e] at hc; cases hc
  | some c =>
    obtain ⟨t1, fs1, o1⟩ := c
    obtain ⟨o2, h1, h2⟩ := h.2.2 a t1 fs1 o1 e
    rw [h1] at hc
    cases hc
    exact ⟨o1, rfl, h2⟩
theorem Rel.rlb {H : Heap} (h : Rel E g H) (hr : Rlb g g2) : Rel E g2 H := by
  obtain ⟨h1, h2, h3, h4⟩ := h
  refine ⟨fun a c hc => ?_, by rw [hr.1]; exact h2, by rw [hr.1]; exact h3, fun a t fs w h100 hc v hv => ?_⟩
  · obtain ⟨t, fs, o'⟩ := c
    obtain ⟨o, e1, e2⟩ := hr.inv hc
    have vm : ∀ cell, vmOK E a (t, fs, o) cell → vmOK E a (t, fs, o') cell := fun cell ⟨v1, v2, v3⟩ => ⟨v1, v2, fun hn => v3 (fun ho => hn (e2 ho))⟩
    rcases h1 a _ e1 with ⟨r, q1, q2, cell, q3, q4, q5, q6⟩ | ⟨ty, q0, q1, cell, q3, q4, q5, q6⟩ | ⟨⟨q0, q1, cell, q3, q4, q5, q6⟩, q7⟩
    · exact Or.inl ⟨r, q1, q2, cell, q3, q4, vm _ q5, q6⟩
    · exact Or.inr (Or.inl ⟨ty, q0, q1, cell, q3, q4, vm _ q5, q6⟩)
    · exact Or.inr (Or.inr ⟨⟨q0, q1, cell, q3, q4, vm _ q5, q6⟩, e2 q7⟩)
  · obtain ⟨o, e1, e2⟩ := hr.inv hc
    exact (h4 a t fs o h100 e1 v hv).to fun y c hy => hr.tag hy
theorem Runs.pre_ghost (hr : Rlb g g2) (h : Runs E y As g2 d Q X) : Runs E y As g d Q X := by
  have e1 : rmO g2 d = rmO g d := by unfold rmO; rw [hr.1]
  unfold Runs at h ⊢
  rw [e1, hr.1] at h
  intro p e ha hc hk s m args below hf happ hP
  exact h p e ha hc hk s m args below hf happ ⟨hP.1, hP.2.1, hP.2.2.rlb hr⟩
theorem Runs.post_ghost (h : Runs E y As g d (fun v g' => ∃ g2, Rlb g' g2 ∧ Q v g2) X) : Runs E y As g d Q X := by
  intro p e ha hc hk s m args below hf happ hP
  obtain ⟨n, o, h1, h2, h3, h4⟩ := h p e ha hc hk s m args below hf happ hP
  refine ⟨n, o, h1, h2, h3, ?_⟩
  rcases h4 with ⟨⟨v, g', e1, e2, g3, e3, e4⟩, hL⟩ | h4
  · exact Or.inl ⟨⟨v, g3, e1, e2.rlb e3, e4⟩, hL⟩
  · exact Or.inr h4
theorem From.ghost {own : String} {ini : Bool} {pc : Nat} {L : List Sl} {st : List Value} (hr : Rlb g g2) (h : From E y own ini d Q X pc L st g2) : From E y own ini d Q X pc L st g := by
  intro p l e R s m args below meth c u0 Qf cx HT HR XO H locs ls hRel hS hl
  exact h p l e R s m args below meth c u0 Qf cx HT HR XO H locs ls (hRel.rlb hr) hS hl
/-- frozen at the end -/
def frzG (g : Hp) (P : Nat → Prop) [DecidablePred P] : Hp := (g.1, fun a => (g.2 a).map fun c => (c.1, c.2.1, c.2.2.bind fun w => if P w then none else some w))
theorem frzG_rlb (g : Hp) (P : Nat → Prop) [DecidablePred P] : Rlb g (frzG g P) :=
  ⟨rfl, fun a h => by simp [frzG, h], fun a t fs o h => ⟨o.bind fun w => if P w then none else some w, by simp [frzG, h], fun ho => by rw [ho]; rfl⟩⟩
/-! frames -/
def prot (S : Nat → Prop) (g : Hp) (o : Option Nat) : Prop := ∀ w, o = some w → ¬ S w ∧ g.2 w ≠ none
/-- at most n used; only cells whose owner is in S have changed -/
def Fr (S : Nat → Prop) (n : Nat) (g g' : Hp) : Prop := (∀ a t fs o, g.2 a = some (t, fs, o) → prot S g o → g'.2 a = some (t, fs, o)) ∧ (∀ (a : Nat) (c : Cel), g.2 a = some c → ∃ c' : Cel, g'.2 a = some c' ∧ c'.1 = c.1) ∧ g'.1 ≤ g.1 + n
theorem Fr.refl {S : Nat → Prop} {n : Nat} {g : Hp} : Fr S n g g := ⟨fun _ _ _ _ h _ => h, fun _ c h => ⟨c, h, rfl⟩, by omega⟩
theorem Fr.ex {S : Nat → Prop} {n : Nat} {g g' : Hp} (h : Fr S n g g') {a : Nat} (ha : g.2 a ≠ none) : g'.2 a ≠ none := by
  cases e : g.2 a with
  | none => exact absurd e ha
  | some c =>
    obtain ⟨c', e', -⟩ := h.2.1 a c e
    rw [e']
    simp
theorem Fr.trans {S S' : Nat → Prop} {n n' : Nat} {g g1 g2 : Hp} (h : Fr S n g g1) (h' : Fr S' n' g1 g2) (hs : ∀ w, S' w → S w ∨ g.2 w = none) : Fr S (n + n') g g2 := by
  refine ⟨fun a t fs o hc hp => ?_, fun a c ha => ?_, by have := h.2.2; have := h'.2.2; omega⟩
  case refine_2 =>
    obtain ⟨c1, e1, e2⟩ := h.2.1 a c ha
    obtain ⟨c2, e3, e4⟩ := h'.2.1 a c1 e1
    exact ⟨c2, e3, e4.trans e2⟩
  refine h'.1 a t fs o (h.1 a t fs o hc hp) fun w hw => ?_
  obtain ⟨p1, p2⟩ := hp w hw
  exact ⟨fun hS' => (hs w hS').elim p1 p2, h.ex p2⟩
theorem Fr.weak {S S' : Nat → Prop} {n n' : Nat} {g g1 : Hp} (h : Fr S n g g1) (hs : ∀ w, S w → S' w ∨ g.2 w = none) (hn : n ≤ n') : Fr S' n' g g1 :=
  ⟨fun a t fs o hc hp => h.1 a t fs o hc fun w hw => ⟨fun hS => (hs w hS).elim (hp w hw).1 (hp w hw).2, (hp w hw).2⟩, h.2.1, by have := h.2.2; omega⟩
theorem Fr.put {S : Nat → Prop} {g g' : Hp} {a t w : Nat} {fs : List Value} {c : Cel} (h0 : g.2 a = some (t, fs, some w)) (h : Put g g' a c) (hw : S w ∨ g.2 w = none) (ht : c.1 = t := by rfl) : Fr S 0 g g' := by
  refine ⟨fun b t9 fs9 o hc hp => ?_, h.keep h0 ht, by have := h.1; omega⟩
  obtain ⟨h1, h2, h3⟩ := h
  · by_cases e : b = a
    · subst e
      rw [h0] at hc
      cases hc
      obtain ⟨p1, p2⟩ := hp w rfl
      exact (hw.elim p1 p2).elim
    · rw [h3 b e]; exact hc
theorem Fr.new {S : Nat → Prop} {g g' : Hp} {a n : Nat} {c : Cel} (h : New g g' a c n) : Fr S (5 + n) g g' := by
  obtain ⟨h0, h1, h2, h3⟩ := h
  refine ⟨fun b t9 fs9 o hc hp => ?_, fun b c9 hb => ?_, by omega⟩
  · by_cases e : b = a
    · subst e; rw [h0] at hc; cases hc
    · rw [h3 b e]; exact hc
  · by_cases e : b = a
    · subst e; rw [h0] at hb; cases hb
    · exact ⟨c9, by rw [h3 b e]; exact hb, rfl⟩
theorem Fr.frz {S : Nat → Prop} {n : Nat} {g g' : Hp} (h : Fr S n g g') {a t : Nat} {fs : List Value} (hc : g.2 a = some (t, fs, none)) : g'.2 a = some (t, fs, none) := h.1 a t fs none hc fun w hw => by cases hw
theorem Fr.own {S : Nat → Prop} {n : Nat} {g g' : Hp} (h : Fr S n g g') {a t w : Nat} {fs : List Value} (hc : g.2 a = some (t, fs, some w)) (h1 : ¬ S w) (h2 : g.2 w ≠ none) : g'.2 a = some (t, fs, some w) := h.1 a t fs (some w) hc fun w' hw => by cases hw; exact ⟨h1, h2⟩
end BASE
/-! texts -/
def chv (s : List Nat) : List Value := s.map fun c => .int (nI c)
def asc7 (s : List Nat) : Prop := ∀ c ∈ s, c < 128
def Str (g : Hp) (a : Nat) (s : List Nat) : Prop := ∃ b x y, g.2 a = some (26, [.ref b, .int (nI 0), x, y], none) ∧ g.2 b = some (100, chv s, none) ∧ asc7 s ∧ s.length < 2 ^ 20
theorem Str.fr {S : Nat → Prop} {n : Nat} {g g' : Hp} {a : Nat} {s : List Nat} (h : Str g a s) (hf : Fr S n g g') : Str g' a s := by
  obtain ⟨b, x, y, h1, h2, h3⟩ := h
  exact ⟨b, x, y, hf.frz h1, hf.frz h2, h3⟩
theorem chv_len (s : List Nat) : (chv s).length = s.length := by simp [chv]
theorem nrwB {n : Nat} (h : n < 128) : Nrw 3 (nI n) := by
  have h5 : ∀ n : Fin 128, (nI n.val).toInt8.toInt32 = nI n.val := by decide +kernel
  exact h5 ⟨n, h⟩
theorem nrwC {n : Nat} (h : n < 65536) : Nrw 2 (nI n) := ⟨n, h, rfl⟩
theorem nI_sub {a b : Nat} (h : b ≤ a) : nI a - nI b = nI (a - b) := by
  have h1 : nI (a - b) + nI b = nI a := by rw [nI_add]; congr 1; omega
  rw [← h1]
  exact Int32.add_sub_cancel _ _
theorem lat1 {c : Nat} (h : c < 128) : ((nI c &&& nI 255).toUInt32 % 65536).toInt32 = nI c := by
  have h5 : ∀ n : Fin 128, ((nI n.val &&& nI 255).toUInt32 % 65536).toInt32 = nI n.val := by decide +kernel
  exact h5 ⟨c, h⟩
theorem i2b_c {c : Nat} (h : c < 128) : (nI c).toInt8.toInt32 = nI c := nrwB h
theorem i2c_c {c : Nat} (h : c < 65536) : ((nI c).toUInt32 % 65536).toInt32 = nI c := by
  have e : (nI c).toUInt32 % 65536 = UInt32.ofNat c := by
    apply UInt32.toNat_inj.mp
    have : (nI c).toUInt32 = UInt32.ofNat c := rfl
    rw [this, UInt32.toNat_mod, UInt32.toNat_ofNat]
    show c % 2 ^ 32 % 65536 = c % 2 ^ 32
    omega
  rw [e]
  rfl
theorem shr0 (x : Int32) : x >>> (nI 0 &&& 31) = x := by
  have : (nI 0 &&& 31 : Int32) = 0 := by decide +kernel
  rw [this]; exact Int32.shiftRight_zero
theorem shl0 (x : Int32) : x <<< (nI 0 &&& 31) = x := by
  have : (nI 0 &&& 31 : Int32) = 0 := by decide +kernel
  rw [this]; exact Int32.shiftLeft_zero
theorem sub_le0 {a b : Nat} (ha : a < 2 ^ 31) (hb : b < 2 ^ 31) : nI a - nI b ≤ nI 0 ↔ a ≤ b := by
  rw [Int32.le_iff_toInt_le, Int32.toInt_sub, nI_toInt ha, nI_toInt hb, nI_toInt (by omega), Int.bmod_def]
  omega
theorem nth_chv {s : List Nat} {i c : Nat} (h : s[i]? = some c) : nth (chv s) i = some (.int (nI c)) := by
  rw [nth_eq]
  simp [chv, h]
theorem nth_app {α : Type} {l m : List α} {i : Nat} {c : α} (h : nth l i = some c) : nth (l ++ m) i = some c := by
  rw [nth_eq] at h ⊢
  rw [List.getElem?_append_left (List.getElem?_eq_some_iff.mp h).1]
  exact h
theorem New.put {g g1 g2 : Hp} {a n : Nat} {c c' : Cel} (h : New g g1 a c n) (h' : Put g1 g2 a c') : New g g2 a c' n := by
  obtain ⟨h1, h2, h3, h4⟩ := h
  obtain ⟨p1, p2, p3⟩ := h'
  exact ⟨h1, by rw [p1, h2], p2, fun b hb => by rw [p3 b hb, h4 b hb]⟩
theorem cpyL_grow {fs : List Value} {n : Nat} {z : Value} (h : fs.length ≤ n) : cpyL fs 0 (List.replicate n z) 0 fs.length = fs ++ List.replicate (n - fs.length) z := by
  simp [cpyL]
theorem chv_snoc (s : List Nat) (c : Nat) (t0 : Value) (tl : List Value) : (chv s ++ t0 :: tl).set s.length (.int (nI c)) = chv (s ++ [c]) ++ tl := by
  rw [List.set_append_right _ _ (by rw [chv_len]; omega), chv_len, Nat.sub_self]
  simp [chv]
theorem asc7_snoc {s : List Nat} {c : Nat} (h : asc7 s) (hc : c < 128) : asc7 (s ++ [c]) := by
  intro x hx
  rcases List.mem_append.mp hx with hx | hx
  · exact h x hx
  · rw [List.mem_singleton.mp hx]; exact hc
theorem asc7_app {s t : List Nat} (h : asc7 s) (hc : asc7 t) : asc7 (s ++ t) := fun x hx => (List.mem_append.mp hx).elim (h x) (hc x)
theorem Fr.frzG {P : Nat → Prop} [DecidablePred P] {g : Hp} : Fr P 0 g (frzG g P) := by
  refine ⟨fun a t fs o hc hp => ?_, fun a c ha => ?_, Nat.le_refl _⟩
  · have e : (o.bind fun w => if P w then none else some w) = o := by
      cases o with
      | none => rfl
      | some w => simp [(hp w rfl).1]
    show (g.2 a).map _ = _
    rw [hc]
    simp [e]
  · exact ⟨(c.1, c.2.1, c.2.2.bind fun w => if P w then none else some w), by show (g.2 a).map _ = some _; rw [ha]; rfl, rfl⟩
theorem frzG_at {P : Nat → Prop} [DecidablePred P] {g : Hp} {a t w : Nat} {fs : List Value} (h : g.2 a = some (t, fs, some w)) (hp : P w) : (frzG g P).2 a = some (t, fs, none) := by
  show (g.2 a).map _ = _
  rw [h]
  simp [hp]
theorem Fr.new0 {S : Nat → Prop} {n k : Nat} {g g1 g2 : Hp} {a : Nat} {c : Cel} (h : New g g1 a c k) (h' : Fr (fun w => w = a) n g1 g2) : Fr S (5 + k + n) g g2 := (Fr.new h).trans h' fun w hw => Or.inr (by rw [hw]; exact h.1)
theorem cpyL_chv {s t : List Nat} {tl : List Value} : cpyL (chv t) 0 (chv s ++ tl) s.length t.length = chv (s ++ t) ++ tl.drop t.length := by
  have e1 : (chv s ++ tl).take s.length = chv s := by rw [← chv_len s, List.take_left]
  have e2 : (chv t).take t.length = chv t := by rw [← chv_len t, List.take_length]
  have e3 : (chv s ++ tl).drop (s.length + t.length) = tl.drop t.length := by rw [← chv_len s, List.drop_length_add_append]
  unfold cpyL
  rw [List.drop_zero, e1, e2, e3]
  simp [chv]
