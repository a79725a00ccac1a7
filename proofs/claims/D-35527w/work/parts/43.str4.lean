/-! String.toCharArray, valueOf(char); StringBuilder: substring, reverse, charAt -/
section STR4
variable {E : Ev} {g : Hp} {a b d : Nat} {s t : List Nat} {Q : Post} {X : XPost}
theorem inflate_set {s : List Nat} {k : Nat} (hk : k < s.length) : (chv (s.take k) ++ List.replicate (s.length - k) (.int (nI 0) : Value)).set k (.int (nI s[k])) = chv (s.take (k + 1)) ++ List.replicate (s.length - (k + 1)) (.int (nI 0) : Value) := by
  have hl : (chv (s.take k)).length = k := by rw [chv_len, List.length_take]; omega
  rw [List.set_append_right _ _ (by omega), hl, Nat.sub_self]
  have : s.length - k = (s.length - (k + 1)) + 1 := by omega
  rw [this, List.replicate_succ, List.set_cons_zero]
  have e : s.take (k + 1) = s.take k ++ [s[k]] := by rw [List.take_succ_eq_append_getElem hk]
  rw [e]
  simp only [chv, List.map_append, List.map_cons, List.map_nil, List.append_assoc, List.singleton_append]
theorem str_toCharArray {w : Nat} (h : Str g a s) (hd : 4 ≤ d) (hL : g.1 + 5 + s.length ≤ LIM) (hQ : ∀ b g', New g g' b (101, chv s, some w) s.length → Q (some (.ref b)) g') : Runs E 426 [.ref a] g d Q X := by
  obtain ⟨b1, u1, v1, p1, p2, p3, p4⟩ := id h
  have e1 : (chv s).length = s.length := chv_len s
  refine Runs_from meth_J6_toCharArray (Nat.le_of_ble_eq_true rfl) (from_wp 400 meth_J6_toCharArray nocut ?_)
  conv => whnf
  refine ⟨_, p1, _, rfl, rfl, by omega, str_isLatin1 h ?_⟩
  conv => whnf
  refine ⟨fun hh => absurd hh (by decide +kernel), fun _ => ?_⟩
  conv => whnf
  refine ⟨_, p1, _, rfl, _, rfl, ?_⟩
  conv => whnf
  refine ⟨rfl, by omega, ?_⟩
  refine Runs_from meth_J18_toChars (Nat.le_of_ble_eq_true rfl) (from_wp 400 meth_J18_toChars nocut ?_)
  conv => whnf
  refine ⟨_, p2, Nat.le_of_ble_eq_true rfl, by first | omega | (dsimp only; omega) | (simp only [List.length_append]; omega) | (simp; omega) | simp, ?_⟩
  conv => whnf
  dsimp only
  rw [e1]
  refine ⟨s.length, rfl, by omega, hL, fun b hb => ⟨w, fun g1 hn => ?_⟩⟩
  conv => whnf
  have hp := (hn.2.2.2 _ (ne_new hb p2)).trans p2
  have hb1 := hn.2.2.1
  have hn' : New g g1 b (101, List.replicate s.length (.int (nI 0)), some w) s.length := hn
  refine ⟨_, hp, Nat.le_of_ble_eq_true rfl, by first | omega | (dsimp only; omega) | (simp only [List.length_append]; omega) | (simp; omega) | simp, ?_⟩
  conv => whnf
  dsimp only
  rw [e1]
  refine ⟨rfl, by omega, ?_⟩
  have loop : ∀ (Q' : Post) (X' : XPost), (∀ g', New g g' b (101, chv s, some w) s.length → Q' none g') → ∀ n k (g2 : Hp), k ≤ s.length → s.length - k = n → New g g2 b (101, chv (s.take k) ++ List.replicate (s.length - k) (.int (nI 0) : Value), some w) s.length → From E 39 "java/lang/StringLatin1" false (d - 1 - 1) Q' X' 3 [some (.inl (.ref b1)), some (.inl (.int (nI k))), some (.inl (.ref b)), some (.inl (.int (nI k))), some (.inl (.int (nI s.length))), some (.inl (.int (nI k)))] [] g2 := by
    intro Q' X' hQ' n
    induction n with
    | zero =>
      intro k g2 hk hn hnew
      have : k = s.length := by omega
      subst this
      refine from_wp 400 meth_J18_inflate_2 (selfcut 3) ?_
      conv => whnf
      refine ⟨fun _ => ?_, fun hh => absurd (by simp (disch := omega) only [cst, ne_eq, nI_add, nI_ltI, nI_leI, nI_eq]; omega) hh⟩
      conv => whnf
      refine ⟨trivial, hQ' g2 ?_⟩
      rw [List.take_length, Nat.sub_self] at hnew
      simpa using hnew
    | succ n ih =>
      intro k g2 hk hn hnew
      have hks : k < s.length := by omega
      have q1 : s[k]? = some s[k] := List.getElem?_eq_getElem hks
      have r1 : s[k] < 128 := p3 _ (List.getElem_mem hks)
      have hp2 := (hnew.2.2.2 _ (ne_new hb p2)).trans p2
      refine from_wp 400 meth_J18_inflate_2 (selfcut 3) ?_
      conv => whnf
      refine ⟨fun hh => absurd hh (by simp (disch := omega) only [cst, ne_eq, nI_add, nI_ltI, nI_leI, nI_eq]; omega), fun _ => ?_⟩
      conv => whnf
      refine ⟨_, hp2, Or.inl rfl, k, rfl, by omega, _, nth_chv q1, ?_⟩
      conv => whnf
      have el : ((nI s[k] &&& cst [255]).toUInt32 % 65536).toInt32 = nI s[k] := lat1 r1
      refine ⟨_, _, _, hnew.2.2.1, rfl, by rw [el]; exact nrwC (by omega), k, rfl, by omega, by rw [List.length_append, chv_len, List.length_take, List.length_replicate]; omega, fun g3 hp3 => ?_⟩
      conv => whnf
      rw [el, inflate_set hks] at hp3
      simp only [nI_add]
      exact ⟨trivial, ih (k + 1) g3 (by omega) (by omega) (hnew.put hp3)⟩
  refine Runs_from meth_J18_inflate_2 (Nat.le_of_ble_eq_true rfl) (from_wp 400 meth_J18_inflate_2 (selfcut 3) ?_)
  conv => whnf
  refine ⟨trivial, loop _ _ (fun g' hg' => ?_) s.length 0 g1 (by omega) (by omega) (by simpa [chv] using hn')⟩
  conv => whnf
  refine ⟨trivial, ?_⟩
  conv => whnf
  exact ⟨trivial, hQ b g' hg'⟩
theorem str_valueOfC {c : Nat} (hc : c < 128) (hd : 4 ≤ d) (hL : g.1 + 15 ≤ LIM) (hQ : ∀ a' g', Str g' a' [c] → Fr (fun _ => False) 15 g g' → Q (some (.ref a')) g') : Runs E 210 [.int (nI c)] g d Q X := by
  refine Runs.post_ghost ?_
  refine Runs_from meth_J6_valueOf_2 (Nat.le_of_ble_eq_true rfl) (from_wp 400 meth_J6_valueOf_2 nocut ?_)
  conv => whnf
  refine ⟨fun hh => absurd hh (by decide +kernel), fun _ => ?_⟩
  conv => whnf
  refine ⟨rfl, by omega, ?_⟩
  refine Runs_from meth_J18_canEncode (Nat.le_of_ble_eq_true rfl) (from_wp 400 meth_J18_canEncode nocut ?_)
  conv => whnf
  refine ⟨fun hh => absurd hh (by simp (disch := omega) only [cst, ne_eq, nI_add, nI_ltI, nI_leI, nI_eq]; omega), fun _ => ?_⟩
  conv => whnf
  refine ⟨Or.inr rfl, ?_⟩
  conv => whnf
  refine ⟨fun hh => absurd hh (by decide +kernel), fun _ => ?_⟩
  conv => whnf
  refine ⟨by show g.1 + 5 + 4 ≤ LIM; omega, fun a' ha' => ⟨a', fun g1 hnew => ?_⟩⟩
  conv => whnf
  have h1 := hnew.2.2.1
  have hg1 : g1.1 = g.1 + 5 + 4 := hnew.2.1
  refine ⟨rfl, by omega, ?_⟩
  refine Runs_from meth_J18_toBytes (Nat.le_of_ble_eq_true rfl) (from_wp 400 meth_J18_toBytes nocut ?_)
  conv => whnf
  refine ⟨1, rfl, by omega, by omega, fun b' hb' => ⟨a', fun g2 hn2 => ?_⟩⟩
  conv => whnf
  have h1 := (hn2.2.2.2 _ (ne_new hb' h1)).trans h1
  have hb2 := hn2.2.2.1
  have hF : Fr (fun w => w = a') (5 + 1) g1 g2 := Fr.new hn2
  refine ⟨_, _, _, hb2, Or.inl ⟨rfl, by rw [i2b_c hc]; exact nrwB hc⟩, 0, rfl, by omega, by simp, fun g3 hp3 => ?_⟩
  conv => whnf
  have hF := hF.trans (Fr.put (S := fun w => w = a') hb2 hp3 (Or.inl rfl)) (fun w hw => Or.inl hw)
  have h1 := (hp3.2.2 _ (ne_tag hb2 h1 rfl)).trans h1
  have hb3 : g3.2 b' = some (100, chv [c], some a') := by rw [hp3.2.1, i2b_c hc]; rfl
  refine ⟨trivial, ?_⟩
  conv => whnf
  refine ⟨⟨_, h1, Nat.le_of_ble_eq_true rfl⟩, rfl, by omega, ?_⟩
  refine Runs_from meth_J6_init_3 (Nat.le_of_ble_eq_true rfl) (from_wp 400 meth_J6_init_3 nocut ?_)
  conv => whnf
  refine ⟨rfl, by omega, ?_⟩
  conv => whnf
  refine ⟨_, _, _, h1, rfl, _, rfl, by simp, trivial, fun g4 hp4 => ?_⟩
  conv => whnf
  have hb4 := (hp4.2.2 _ (ne_tag h1 hb3 rfl)).trans hb3
  have hF := hF.trans (Fr.put (S := fun w => w = a') h1 hp4 (Or.inl rfl)) (fun w hw => Or.inl hw)
  have h1 := hp4.2.1
  refine ⟨_, _, _, h1, rfl, _, rfl, by simp, nrwB (n := 0) (by omega), fun g5 hp5 => ?_⟩
  conv => whnf
  have hb5 := (hp5.2.2 _ (ne_tag h1 hb4 rfl)).trans hb4
  have hF := hF.trans (Fr.put (S := fun w => w = a') h1 hp5 (Or.inl rfl)) (fun w hw => Or.inl hw)
  have h1 := hp5.2.1
  refine ⟨trivial, ?_⟩
  conv => whnf
  refine ⟨trivial, frzG g5 (fun w => w = a'), frzG_rlb _ _, hQ a' _ ?_ ?_⟩
  · exact ⟨b', .int (nI 0), .int (nI 0), frzG_at h1 rfl, frzG_at hb5 rfl, (by intro x hx; rw [List.mem_singleton.mp hx]; exact hc), by simp⟩
  · exact (Fr.new0 (S := fun _ => False) hnew (hF.trans Fr.frzG fun w hw => Or.inl hw)).weak (fun w (hw : False) => hw.elim) (by show 5 + 4 + _ ≤ _; omega)
theorem sb_substring {cap i : Nat} (h : SB g a s cap) (hi : i ≤ s.length) (hG : GL E g) (hd : 10 ≤ d) (hL : g.1 + 14 + s.length ≤ LIM) (hQ : ∀ a' g', Str g' a' (s.drop i) → Fr (fun _ => False) (14 + s.length) g g' → Q (some (.ref a')) g') : Runs E 457 [.ref a, .int (nI i)] g d Q X := by
  have h0 := h
  obtain ⟨b, tl, m, h1, h2, h3, h4, h5⟩ := h
  have hq : ∀ Q' : Post, ∀ X' : XPost, (∀ a' g', Str g' a' (s.drop i) → Fr (fun _ => False) (14 + s.length) g g' → Q' (some (.ref a')) g') → Runs E 85 [.ref b, .int (nI i), .int (nI (s.length - i))] g (d - 1 - 1 - 1 - 1) Q' X' := by
    intro Q' X' hQ'
    have hs := sub_take (tl := tl) (s := s) (i := i) (n := s.length - i) (by omega)
    rw [List.take_of_length_le (l := s.drop i) (by rw [List.length_drop]; omega)] at hs
    exact l1_newString h2 hs (by rw [List.length_drop]) (fun c hc => h4 c (List.mem_of_mem_drop hc)) (by rw [List.length_append, chv_len]; omega) (by rw [List.length_append, chv_len]; omega) hG (by omega) (by omega) fun a' g' q1 q2 => hQ' a' g' q1 (q2.weak (fun w hw => Or.inl hw) (by omega))
  refine Runs_from meth_J5_substring (Nat.le_of_ble_eq_true rfl) (from_wp 400 meth_J5_substring nocut ?_)
  conv => whnf
  refine ⟨⟨_, h1, Nat.le_of_ble_eq_true rfl⟩, rfl, by omega, ?_⟩
  refine Runs_from meth_J4_substring (Nat.le_of_ble_eq_true rfl) (from_wp 400 meth_J4_substring nocut ?_)
  conv => whnf
  refine ⟨_, h1, _, rfl, _, rfl, ?_⟩
  conv => whnf
  refine ⟨_, h1, _, rfl, rfl, by omega, ?_⟩
  refine Runs_from meth_J5_substring_2 (Nat.le_of_ble_eq_true rfl) (from_wp 400 meth_J5_substring_2 nocut ?_)
  conv => whnf
  refine ⟨⟨_, h1, Nat.le_of_ble_eq_true rfl⟩, rfl, by omega, ?_⟩
  refine Runs_from meth_J4_substring_2 (Nat.le_of_ble_eq_true rfl) (from_wp 400 meth_J4_substring_2 nocut ?_)
  conv => whnf
  refine ⟨_, h1, _, rfl, _, rfl, ?_⟩
  conv => whnf
  refine ⟨?_, fun y => ?_⟩
  all_goals
    refine ⟨rfl, by omega, ?_⟩
    refine Runs_from meth_J17_checkFromToIndex (Nat.le_of_ble_eq_true rfl) (from_wp 400 meth_J17_checkFromToIndex nocut ?_)
    conv => whnf
    refine ⟨fun hh => absurd hh (by simp (disch := omega) only [cst, ne_eq, nI_add, nI_ltI, nI_leI, nI_eq]; omega), fun _ => ?_⟩
    conv => whnf
    refine ⟨fun hh => absurd hh (by simp (disch := omega) only [cst, ne_eq, nI_add, nI_ltI, nI_leI, nI_eq]; omega), fun _ => ?_⟩
    conv => whnf
    refine ⟨fun _ => ?_, fun hh => absurd (by simp (disch := omega) only [cst, ne_eq, nI_add, nI_ltI, nI_leI, nI_eq]; omega) hh⟩
    conv => whnf
    refine ⟨trivial, ?_⟩
    conv => whnf
    refine ⟨_, h1, _, rfl, rfl, by omega, sb_isLatin1 h0 ?_⟩
    conv => whnf
    refine ⟨fun hh => absurd hh (by decide +kernel), fun _ => ?_⟩
    conv => whnf
    refine ⟨_, h1, _, rfl, _, rfl, ?_⟩
    conv => whnf
    simp only [nI_sub hi]
    refine ⟨rfl, by omega, hq _ _ fun a' g' q1 q2 => ?_⟩
    conv => whnf
    refine ⟨trivial, ?_⟩
    conv => whnf
    refine ⟨trivial, ?_⟩
    conv => whnf
    refine ⟨trivial, ?_⟩
    conv => whnf
    exact ⟨trivial, hQ a' g' q1 q2⟩
theorem sb_charAt {cap i c : Nat} (h : SB g a s cap) (hc : s[i]? = some c) (hd : 5 ≤ d) (hQ : Q (some (.int (nI c))) g) : Runs E 489 [.ref a, .int (nI i)] g d Q X := by
  obtain ⟨b, tl, m, h1, h2, h3, h4, h5⟩ := h
  have hi := (List.getElem?_eq_some_iff.mp hc).1
  have e : (chv s ++ tl).length = cap := by rw [List.length_append, chv_len]; exact h3
  have r1 : c < 128 := h4 c (List.mem_of_getElem? hc)
  refine Runs_from meth_J5_charAt (Nat.le_of_ble_eq_true rfl) (from_wp 400 meth_J5_charAt nocut ?_)
  conv => whnf
  refine ⟨⟨_, h1, Nat.le_of_ble_eq_true rfl⟩, rfl, by omega, ?_⟩
  refine Runs_from meth_J4_charAt (Nat.le_of_ble_eq_true rfl) (from_wp 400 meth_J4_charAt nocut ?_)
  conv => whnf
  refine ⟨_, h1, _, rfl, _, rfl, ?_⟩
  conv => whnf
  refine ⟨_, h1, _, rfl, _, rfl, ?_⟩
  conv => whnf
  refine ⟨_, h1, _, rfl, _, rfl, ?_⟩
  conv => whnf
  refine ⟨_, h2, Nat.le_of_ble_eq_true rfl, by first | omega | (dsimp only; omega) | (simp only [List.length_append]; omega) | (simp; omega) | simp, ?_⟩
  conv => whnf
  dsimp only
  rw [e]
  simp only [shr0]
  refine ⟨rfl, by omega, math_min (by omega) (by omega) ?_⟩
  conv => whnf
  rw [Nat.min_eq_left (by omega)]
  refine ⟨rfl, by omega, str_checkIndex (by omega) hi (by omega) ?_⟩
  conv => whnf
  refine ⟨fun hh => absurd hh (by decide +kernel), fun _ => ?_⟩
  conv => whnf
  refine ⟨_, h2, Or.inl rfl, i, rfl, by omega, _, nth_app (nth_chv hc), ?_⟩
  conv => whnf
  have el : ((nI c &&& cst [255]).toUInt32 % 65536).toInt32 = nI c := lat1 r1
  rw [el]
  refine ⟨nrwC (by omega), ?_⟩
  conv => whnf
  exact ⟨nrwC (by omega), hQ⟩
/-- reversed from the middle on: what is nearer to an end than k stands yet -/
def rvk (k : Nat) (s : List Nat) : List Nat := (List.range s.length).map fun i => if i < k ∨ s.length ≤ i + k then s.getD i 0 else s.getD (s.length - 1 - i) 0
theorem rvk_len (k : Nat) (s : List Nat) : (rvk k s).length = s.length := by simp [rvk]
theorem rvk_get {k i : Nat} {s : List Nat} (h : i < s.length) : (rvk k s)[i]? = some (if i < k ∨ s.length ≤ i + k then s.getD i 0 else s.getD (s.length - 1 - i) 0) := by
  simp [rvk, h]
theorem rvk_mid (s : List Nat) : rvk (s.length / 2) s = s := by
  apply List.ext_getElem?
  intro i
  by_cases h : i < s.length
  · rw [rvk_get h, List.getElem?_eq_getElem h]
    congr 1
    split
    · simp [List.getD, h]
    · have : s.length - 1 - i = i := by omega
      rw [this]
      simp [List.getD, h]
  · rw [List.getElem?_eq_none (by rw [rvk_len]; omega), List.getElem?_eq_none (by omega)]
theorem rvk_zero (s : List Nat) : rvk 0 s = s.reverse := by
  apply List.ext_getElem?
  intro i
  by_cases h : i < s.length
  · rw [rvk_get h, List.getElem?_reverse h, if_neg (by omega)]
    simp [List.getD, show s.length - 1 - i < s.length by omega]
  · rw [List.getElem?_eq_none (by rw [rvk_len]; omega), List.getElem?_eq_none (by simp; omega)]
theorem rvk_step {k : Nat} {s : List Nat} (hk : k + 1 ≤ s.length / 2) : ((rvk (k + 1) s).set k (s.getD (s.length - 1 - k) 0)).set (s.length - 1 - k) (s.getD k 0) = rvk k s := by
  apply List.ext_getElem?
  intro i
  by_cases h : i < s.length
  · rw [rvk_get h, List.getElem?_set, List.length_set, rvk_len]
    by_cases e1 : s.length - 1 - k = i
    · subst e1
      rw [if_pos rfl, if_pos h, if_neg (by omega)]
      congr 2
      omega
    · rw [if_neg e1, List.getElem?_set, rvk_len]
      by_cases e2 : k = i
      · subst e2
        rw [if_pos rfl, if_pos h, if_neg (by omega)]
      · rw [if_neg e2, rvk_get h]
        congr 1
        by_cases e3 : i < k ∨ s.length ≤ i + k
        · rw [if_pos e3, if_pos (by omega)]
        · rw [if_neg e3, if_neg (by omega)]
  · rw [List.getElem?_eq_none (by rw [List.length_set, List.length_set, rvk_len]; omega), List.getElem?_eq_none (by rw [rvk_len]; omega)]
theorem rvk_asc {k : Nat} {s : List Nat} (h : asc7 s) : asc7 (rvk k s) := by
  intro c hc
  obtain ⟨i, hi, e⟩ := List.mem_map.mp hc
  rw [List.mem_range] at hi
  have hg : ∀ j, j < s.length → s.getD j 0 < 128 := fun j hj => by
    have : s.getD j 0 = s[j] := by simp [List.getD, hj]
    rw [this]
    exact h _ (List.getElem_mem hj)
  rw [← e]
  split
  · exact hg _ hi
  · exact hg _ (by omega)
theorem half2 {n : Nat} (h : n < 2 ^ 20) : (nI n - nI 1 - nI 1) >>> (nI 1 &&& 31) = nI (n / 2) - nI 1 := by
  have e : (nI 1 &&& 31 : Int32) = 1 := by decide +kernel
  rw [e]
  apply Int32.toInt_inj.mp
  have e2 : ∀ x : Int32, (x >>> (1 : Int32)).toInt = x.toInt >>> 1 := by
    intro x
    rw [← Int32.toInt_toBitVec, Int32.toBitVec_shiftRight, BitVec.sshiftRight_eq', BitVec.toInt_sshiftRight, Int32.toInt_toBitVec]
    rfl
  rw [e2, Int32.toInt_sub, Int32.toInt_sub, Int32.toInt_sub, nI_toInt (by omega), nI_toInt (by omega), nI_toInt (by omega), Int.bmod_def, Int.bmod_def, Int.bmod_def, Int.shiftRight_eq_div_pow]
  omega
theorem chv_set {s : List Nat} {tl : List Value} {k c : Nat} (hk : k < s.length) : (chv s ++ tl).set k (.int (nI c)) = chv (s.set k c) ++ tl := by
  rw [List.set_append_left _ _ (by rw [chv_len]; exact hk)]
  simp [chv, List.map_set]
theorem sb_reverse {cap : Nat} (h : SB g a s cap) (hd : 4 ≤ d) (hQ : ∀ g', SB g' a s.reverse cap → Fr (fun w => w = a) 0 g g' → Q (some (.ref a)) g') : Runs E 380 [.ref a] g d Q X := by
  have h0 := h
  obtain ⟨b, tl, m, h1, h2, h3, h4, h5⟩ := h
  refine Runs_from meth_J5_reverse (Nat.le_of_ble_eq_true rfl) (from_wp 400 meth_J5_reverse nocut ?_)
  conv => whnf
  refine ⟨⟨_, h1, Nat.le_of_ble_eq_true rfl⟩, rfl, by omega, ?_⟩
  have loop : ∀ (Q' : Post) (X' : XPost), (∀ g', SB g' a s.reverse cap → Fr (fun w => w = a) 0 g g' → Q' (some (.ref a)) g') → ∀ k (g1 : Hp) (L5 L6 : Sl), k ≤ s.length / 2 → (L5 = none ∨ ∃ x, L5 = some (.inl (.int x))) → (L6 = none ∨ ∃ x, L6 = some (.inl (.int x))) → g1.2 a = some (27, [.ref b, .int (nI 0), .int m, .int (nI s.length)], some a) → g1.2 b = some (100, chv (rvk k s) ++ tl, some a) → Fr (fun w => w = a) 0 g g1 → From E 95 "java/lang/AbstractStringBuilder" false (d - 1) Q' X' 28 [some (.inl (.ref a)), some (.inl (.ref b)), some (.inl (.int (nI s.length))), some (.inl (.int (nI s.length - nI 1))), some (.inl (.int (nI k - nI 1))), L5, L6] [] g1 := by
    intro Q' X' hQ' k
    induction k with
    | zero =>
      intro g1 L5 L6 hk hL5 hL6 e1 e2 hF
      rcases hL5 with rfl | ⟨x5, rfl⟩ <;> rcases hL6 with rfl | ⟨x6, rfl⟩
      all_goals
        refine from_wp 400 meth_J4_reverse (selfcut 28) ?_
        conv => whnf
        refine ⟨fun _ => ?_, fun hh => absurd (by decide +kernel) hh⟩
        conv => whnf
        refine ⟨trivial, hQ' g1 ⟨b, tl, m, by rw [List.length_reverse]; exact e1, by rw [← rvk_zero]; exact e2, by rw [List.length_reverse]; exact h3, by rw [← rvk_zero]; exact rvk_asc h4, h5⟩ hF⟩
    | succ k ih =>
      intro g1 L5 L6 hk hL5 hL6 e1 e2 hF
      have hks : k < s.length := by omega
      have eN : s.length - 1 - k < s.length := by omega
      have hr := rvk_asc (k := k + 1) h4
      have rl := rvk_len (k + 1) s
      have q1 : (rvk (k + 1) s)[k]? = some (s.getD k 0) := by rw [rvk_get hks, if_pos (by omega)]
      have q2 : (rvk (k + 1) s)[s.length - 1 - k]? = some (s.getD (s.length - 1 - k) 0) := by rw [rvk_get eN, if_pos (by omega)]
      have c1 := hr _ (List.mem_of_getElem? q1)
      have c2 := hr _ (List.mem_of_getElem? q2)
      have ek : nI (k + 1) - nI 1 = nI k := nI_sub (by omega)
      rw [ek]
      rcases hL5 with rfl | ⟨x5, rfl⟩ <;> rcases hL6 with rfl | ⟨x6, rfl⟩
      all_goals
        refine from_wp 400 meth_J4_reverse (selfcut 28) ?_
        conv => whnf
        refine ⟨fun hh => absurd hh (by simp (disch := omega) only [cst, ne_eq, nI_add, nI_ltI, nI_leI, nI_eq]; omega), fun _ => ?_⟩
        conv => whnf
        simp only [nI_sub (show 1 ≤ s.length by omega), nI_sub (show k ≤ s.length - 1 by omega)]
        refine ⟨_, e2, Or.inl rfl, k, rfl, by omega, _, nth_app (nth_chv q1), ?_⟩
        conv => whnf
        refine ⟨_, e2, Or.inl rfl, s.length - 1 - k, rfl, by omega, _, nth_app (nth_chv q2), ?_⟩
        conv => whnf
        refine ⟨_, _, _, e2, Or.inl ⟨rfl, nrwB c2⟩, k, rfl, by omega, by rw [List.length_append, chv_len]; omega, fun g2 hp2 => ?_⟩
        conv => whnf
        have f2 := hF.trans (Fr.put (S := fun w => w = a) e2 hp2 (Or.inl rfl)) (fun w hw => Or.inl hw)
        have e1b := (hp2.2.2 _ (ne_tag e2 e1 rfl)).trans e1
        have e2b := hp2.2.1
        refine ⟨_, _, _, e2b, Or.inl ⟨rfl, nrwB c1⟩, s.length - 1 - k, rfl, by omega, by rw [List.length_set, List.length_append, chv_len]; omega, fun g3 hp3 => ?_⟩
        conv => whnf
        have f3 := f2.trans (Fr.put (S := fun w => w = a) e2b hp3 (Or.inl rfl)) (fun w hw => Or.inl hw)
        have e1c := (hp3.2.2 _ (ne_tag e2b e1b rfl)).trans e1b
        have e2c := hp3.2.1
        rw [chv_set (by omega), chv_set (by rw [List.length_set]; omega), rvk_step hk] at e2c
        have := ih g3 (some (.inl (.int (nI (s.length - 1 - k))))) (some (.inl (.int (nI (s.getD k 0))))) (by omega) (Or.inr ⟨_, rfl⟩) (Or.inr ⟨_, rfl⟩) e1c e2c f3
        rw [nI_sub (show 1 ≤ s.length by omega)] at this
        exact ⟨trivial, this⟩
  refine Runs_from meth_J4_reverse (Nat.le_of_ble_eq_true rfl) (from_wp 400 meth_J4_reverse (selfcut 28) ?_)
  conv => whnf
  refine ⟨_, h1, _, rfl, _, rfl, ?_⟩
  conv => whnf
  refine ⟨_, h1, _, rfl, _, rfl, ?_⟩
  conv => whnf
  refine ⟨_, h1, _, rfl, rfl, by omega, sb_isLatin1 h0 ?_⟩
  conv => whnf
  refine ⟨fun hh => absurd hh (by decide +kernel), fun _ => ?_⟩
  conv => whnf
  simp only [cst, half2 (show s.length < 2 ^ 20 by omega)]
  refine ⟨trivial, loop _ _ (fun g' q1 q2 => ?_) (s.length / 2) g none none (by omega) (Or.inl rfl) (Or.inl rfl) h1 (by rw [rvk_mid]; exact h2) Fr.refl⟩
  conv => whnf
  exact ⟨trivial, hQ g' q1 q2⟩
end STR4
