/-! StringBuilder.append(String) -/
section SB4
variable {E : Ev} {g : Hp} {a d : Nat} {s t : List Nat} {Q : Post} {X : XPost}
theorem sb_appendS {cap x : Nat} (h : SB g a s cap) (ht : Str g x t) (hk : s.length + t.length < 2 ^ 19) (hd : 8 ≤ d) (hl : g.1 + grw cap (s.length + t.length) ≤ LIM) (hQ : ∀ g', SB g' a (s ++ t) (ncap cap (s.length + t.length)) → Fr (fun w => w = a) (grw cap (s.length + t.length)) g g' → Q (some (.ref a)) g') : Runs E 258 [.ref a, .ref x] g d Q X := by
  have h0 := h
  obtain ⟨b, tl, m, h1, h2, h3, h4, h5⟩ := h
  have ht0 := ht
  obtain ⟨tb, u, v, t1, t2, t3, t4⟩ := ht
  refine Runs_from meth_J5_append (Nat.le_of_ble_eq_true rfl) (from_wp 400 meth_J5_append nocut ?_)
  conv => whnf
  refine ⟨⟨_, h1, Nat.le_of_ble_eq_true rfl⟩, rfl, by omega, ?_⟩
  refine Runs_from meth_J4_append (Nat.le_of_ble_eq_true rfl) (from_wp 400 meth_J4_append nocut ?_)
  conv => whnf
  refine ⟨_, t1, _, rfl, rfl, by omega, str_length ht0 (by omega) ?_⟩
  conv => whnf
  refine ⟨_, h1, _, rfl, _, rfl, ?_⟩
  conv => whnf
  simp only [nI_add]
  refine ⟨_, h1, _, rfl, rfl, by omega, sb_ensure' h0 hk (by omega) hl fun g1 hS1 hF1 => ?_⟩
  conv => whnf
  have hS0 := hS1
  obtain ⟨b, tl, m, h1, h2, h3, h4, h5⟩ := hS1
  refine ⟨_, h1, _, rfl, _, rfl, ?_⟩
  conv => whnf
  have ht1 := ht0.fr hF1
  have ht2 := ht1
  obtain ⟨tb, u, v, t1, t2, t3, t4⟩ := ht1
  have hcap : s.length + t.length ≤ ncap cap (s.length + t.length) := by unfold ncap; split <;> omega
  refine ⟨_, h1, _, rfl, rfl, by omega, ?_⟩
  refine Runs_from meth_J4_putStringAt (Nat.le_of_ble_eq_true rfl) (from_wp 400 meth_J4_putStringAt nocut ?_)
  conv => whnf
  refine ⟨_, h1, _, rfl, rfl, by omega, ?_⟩
  refine Runs_from meth_J4_inflateIfNeededFor (Nat.le_of_ble_eq_true rfl) (from_wp 400 meth_J4_inflateIfNeededFor nocut ?_)
  conv => whnf
  refine ⟨fun hh => absurd hh (by decide +kernel), fun _ => ?_⟩
  conv => whnf
  refine ⟨_, h1, _, rfl, _, rfl, ?_⟩
  conv => whnf
  refine ⟨_, t1, _, rfl, rfl, by omega, str_coder ht2 ?_⟩
  conv => whnf
  refine ⟨fun _ => ?_, fun hh => absurd rfl hh⟩
  conv => whnf
  refine ⟨trivial, ?_⟩
  conv => whnf
  refine ⟨_, h1, _, rfl, _, rfl, ?_⟩
  conv => whnf
  refine ⟨_, h1, _, rfl, _, rfl, ?_⟩
  conv => whnf
  refine ⟨_, t1, _, rfl, rfl, by omega, ?_⟩
  refine Runs_from meth_J6_getBytes (Nat.le_of_ble_eq_true rfl) (from_wp 400 meth_J6_getBytes nocut ?_)
  conv => whnf
  refine ⟨_, t1, _, rfl, rfl, by omega, str_coder ht2 ?_⟩
  conv => whnf
  refine ⟨fun hh => absurd hh (fun h => h rfl), fun _ => ?_⟩
  conv => whnf
  refine ⟨_, t1, _, rfl, _, rfl, ?_⟩
  conv => whnf
  simp only [shl0]
  refine ⟨_, t1, _, rfl, _, rfl, ?_⟩
  conv => whnf
  refine ⟨_, t2, Nat.le_refl 100, by show (chv t).length < _; rw [chv_len]; omega, ?_⟩
  conv => whnf
  refine ⟨rfl, by omega, _, _, _, _, _, t2, h2, by omega, by omega, t.length, s.length, 0, congrArg nI (chv_len t), rfl, rfl, by omega, by omega, by omega, by rw [chv_len]; omega, by rw [List.length_append, chv_len]; omega, fun g2 hput => ?_⟩
  conv => whnf
  refine ⟨trivial, ?_⟩
  conv => whnf
  refine ⟨trivial, ?_⟩
  conv => whnf
  have hne : a ≠ b := fun e => by rw [← e, h1] at h2; cases h2
  have h1' := (hput.2.2 a hne).trans h1
  refine ⟨_, h1', _, rfl, _, rfl, ?_⟩
  conv => whnf
  simp only [nI_add]
  refine ⟨_, _, _, h1', rfl, _, rfl, by simp, trivial, fun g3 hp3 => ?_⟩
  conv => whnf
  refine ⟨trivial, ?_⟩
  conv => whnf
  refine ⟨trivial, hQ g3 ?_ ?_⟩
  · refine ⟨b, tl.drop t.length, m, ?_, ?_, ?_, asc7_app h4 t3, h5⟩
    · rw [hp3.2.1, List.length_append]; rfl
    · rw [hp3.2.2 b (Ne.symm hne), hput.2.1, cpyL_chv]
    · rw [List.length_append, List.length_drop]; omega
  · have f2 := Fr.put (S := fun w => w = a) h2 hput (Or.inl rfl)
    have f3 := Fr.put (S := fun w => w = a) h1' hp3 (Or.inl rfl)
    exact (hF1.trans f2 fun w hw => Or.inl hw).trans f3 fun w hw => Or.inl hw
end SB4
