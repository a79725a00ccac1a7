/-! WHAT A CALL'S ROW IS OWED: by the words of the tables -/
theorem codeW_plain {y : Nat} (h : (mtd y).2.2.2.2 = []) : codeW y = .code (mtd y).1 (mtd y).2.1 (mtd y).2.2.1 (mtd y).2.2.2.1 := by
  unfold codeW
  rw [h]
theorem codeW_with {y : Nat} (h : (mtd y).2.2.2.2 ≠ []) : codeW y = .codeWith (mtd y).1 (mtd y).2.1 (mtd y).2.2.1 (mtd y).2.2.2.1 (mtd y).2.2.2.2 := by
  unfold codeW
  split
  · rename_i e; exact absurd e h
  · rfl
/-- a method that may be called -/
def MOK (y n : Nat) : Prop := codeW y ∈ lw_all ∧ Jvm.Cond.initialized (mtd y).1.cls ∈ lw_all ∧ (mtd y).2.2.1 ≤ 21 ∧ ((mtd y).1.cls ≠ "java/lang/invoke/MethodHandle" ∧ (mtd y).1.cls ≠ "java/lang/invoke/VarHandle") ∧ (parseMethodDescriptor (mtd y).1.desc).map (fun d => d.parameters.length) = some n
theorem wsd_good {y : Nat} (h : codeW y ∈ lw_all) : GoodIn lw_all (wsd y) := by
  intro w hw
  rcases List.mem_cons.mp hw with e | e
  · rw [e]; exact lw_self _ h
  · exact lw_self _ e
section SITES
variable {R : Room} {s : State} {args : Array Value} {own : String} {k y n : Nat} {rm : Room} {mc ms : Nat}
theorem mok_n (hm : MOK y n) : ∀ sig, parseMethodDescriptor (mtd y).1.desc = some sig → n = sig.parameters.length := by
  intro sig h
  have h2 := hm.2.2.2.2
  rw [h] at h2
  exact (Option.some.inj h2).symm
theorem callB_mk (hts : ∀ w ∈ lw_all, w.before args s = true) (hm : MOK y n) (hp : (mtd y).2.2.2.2 = []) (hl : Jvm.Cond.methodLink own k (mtd y).1 ∈ lw_all) (h1 : rm.cells = mc) (h2 : rm.slots = ms) (h3 : rm.frames + 1 ≤ R.frames) (h4 : 40 + rm.locals ≤ R.locals) :
    CallB R s args own k (mtd y).1 (mtd y).2.1 (mtd y).2.2.1 (mtd y).2.2.2.1 (wsd y) rm mc ms n := by
  have hc : codeW y ∈ lw_all := hm.1
  have hL := hm.2.2.1
  refine ⟨h1, h2, h3, by omega, pay_in hts (wsd_good hc), ?_, ?_, hts _ hm.2.1, hm.2.2.2.1, mok_n hm, hts _ hl⟩
  · rw [← codeW_plain hp]; exact List.mem_cons_self
  · rw [← codeW_plain hp]; exact hts _ hc
theorem site_S (hm : MOK y n) (hp : (mtd y).2.2.2.2 = []) (hl : Jvm.Cond.methodLink own k (mtd y).1 ∈ lw_all) (hs : Jvm.Cond.static (mtd y).1 ∈ lw_all) : SITE own (.invokestatic k) 3 y n 0 := by
  intro l p e R s m args below meth c H locs cells slots g AsA rest rm Pc Qc XC mc ms free hx hown hts hB hM0 h1 h2 h3 h4 hbl hpre hrecv hg hsz hst hW hd hf
  have hM := MetL.met hM0
  exact vx_runS ⟨hx, rfl, rfl, hown, hts⟩ hM ⟨callB_mk hts hm hp hl h1 h2 h3 h4, hts _ hs⟩ ⟨hbl, hpre⟩ hg hrecv hsz hst hW hd hf
theorem site_SW (hm : MOK y n) (hp : (mtd y).2.2.2.2 ≠ []) (hl : Jvm.Cond.methodLink own k (mtd y).1 ∈ lw_all) (hs : Jvm.Cond.static (mtd y).1 ∈ lw_all) : SITE own (.invokestatic k) 3 y n 0 := by
  intro l p e R s m args below meth c H locs cells slots g AsA rest rm Pc Qc XC mc ms free hx hown hts hB hM0 h1 h2 h3 h4 hbl hpre hrecv hg hsz hst hW hd hf
  have hM := MetL.met hM0
  have hc : codeW y ∈ lw_all := hm.1
  have hL := hm.2.2.1
  refine vx_runSX (hh := (mtd y).2.2.2.2) (maxL := (mtd y).2.2.1) (bytes := (mtd y).2.1) (ret := (mtd y).2.2.2.1) ⟨hx, rfl, rfl, hown, hts⟩ hM ⟨⟨h1, h2, h3, by omega, pay_in hts (wsd_good hc), by rw [← codeW_with hp]; exact List.mem_cons_self⟩, by rw [← codeW_with hp]; exact hts _ hc, hts _ hm.2.1, hm.2.2.2.1, mok_n hm, hts _ hl, hts _ hs⟩ ⟨hbl, hpre⟩ hg hrecv hsz hst hW hd hf
theorem site_SN {host : String} (hm : MOK y n) (hp : (mtd y).2.2.2.2 = []) (hl : Jvm.Cond.methodLinkNest own k (mtd y).1 host ∈ lw_tbl) (hs : Jvm.Cond.static (mtd y).1 ∈ lw_all) : SITE own (.invokestatic k) 3 y n 0 := by
  intro l p e R s m args below meth c H locs cells slots g AsA rest rm Pc Qc XC mc ms free hx hown hts hB hM0 h1 h2 h3 h4 hbl hpre hrecv hg hsz hst hW hd hf
  have hM := MetL.met hM0
  have hc : codeW y ∈ lw_all := hm.1
  have hL := hm.2.2.1
  refine vx_runSN (host := host) (maxL := (mtd y).2.2.1) (bytes := (mtd y).2.1) (ret := (mtd y).2.2.2.1) ⟨hx, rfl, rfl, hown, hts⟩ hM ⟨⟨⟨h1, h2, h3, by omega, pay_in hts (wsd_good hc), by rw [← codeW_plain hp]; exact List.mem_cons_self⟩, by rw [← codeW_plain hp]; exact hts _ hc, hts _ hm.2.1, hm.2.2.2.1, mok_n hm, va_Nw.use rfl (hB.1 _ hl rfl)⟩, hts _ hs, trivial⟩ ⟨hbl, hpre⟩ hg hrecv hsz hst hW hd hf
/-- a constructor -/
theorem site_I (hm : MOK y n) (hp : (mtd y).2.2.2.2 = []) (hl : Jvm.Cond.methodLink own k (mtd y).1 ∈ lw_all) (hi : Jvm.Cond.instanceMethod (mtd y).1 ∈ lw_all) (hnm : (mtd y).1.name = "<init>") (hr : (mtd y).2.2.2.1 = none) : SITE own (.invokespecial k) 3 y n 1 := by
  intro l p e R s m args below meth c H locs cells slots g AsA rest rm Pc Qc XC mc ms free hx hown hts hB hM0 h1 h2 h3 h4 hbl hpre hrecv hg hsz hst hW hd hf
  have hM := MetL.met hM0
  obtain ⟨t, b, As, r, cell, -, rfl, hn, -⟩ := hrecv
  have cb := callB_mk hts hm hp hl h1 h2 h3 h4
  rw [hr] at cb
  exact vx_runI (As := As) (b := b) ⟨hx, rfl, rfl, hown, hts⟩ hM ⟨cb, hnm, hts _ hi⟩ ⟨hbl, hpre⟩ hg hn hsz (by rw [hst]; simp) hW hd hf
theorem site_IN {host : String} (hm : MOK y n) (hp : (mtd y).2.2.2.2 = []) (hl : Jvm.Cond.methodLinkNest own k (mtd y).1 host ∈ lw_tbl) (hi : Jvm.Cond.instanceMethod (mtd y).1 ∈ lw_all) (hnm : (mtd y).1.name = "<init>") (hr : (mtd y).2.2.2.1 = none) : SITE own (.invokespecial k) 3 y n 1 := by
  intro l p e R s m args below meth c H locs cells slots g AsA rest rm Pc Qc XC mc ms free hx hown hts hB hM0 h1 h2 h3 h4 hbl hpre hrecv hg hsz hst hW hd hf
  have hM := MetL.met hM0
  obtain ⟨t, b, As, r, cell, -, rfl, hn, -⟩ := hrecv
  have hc : codeW y ∈ lw_all := hm.1
  have hL := hm.2.2.1
  have e1 : Jvm.Cond.code (mtd y).1 (mtd y).2.1 (mtd y).2.2.1 none = codeW y := by rw [codeW_plain hp, hr]
  exact vx_runIN (As := As) (b := b) (host := host) (maxL := (mtd y).2.2.1) (bytes := (mtd y).2.1) ⟨hx, rfl, rfl, hown, hts⟩ hM ⟨⟨⟨h1, h2, h3, by omega, pay_in hts (wsd_good hc), by rw [e1]; exact List.mem_cons_self⟩, by rw [e1]; exact hts _ hc, hts _ hm.2.1, hm.2.2.2.1, mok_n hm, va_Nw.use rfl (hB.1 _ hl rfl)⟩, hnm, hts _ hi⟩ ⟨hbl, hpre⟩ hg hn hsz (by rw [hst]; simp) hW hd hf
/-- super.m(..) -/
theorem site_SU (hm : MOK y n) (hp : (mtd y).2.2.2.2 = []) (hl : Jvm.Cond.methodLink own k (mtd y).1 ∈ lw_all) (hi : Jvm.Cond.instanceMethod (mtd y).1 ∈ lw_all) (hsm : Jvm.Cond.sameMethod (mtd y).1.cls (mtd y).1.cls (mtd y).1.name (mtd y).1.desc ∈ lw_all) (hsu : Jvm.Cond.superclass own (mtd y).1.cls ∈ lw_all) (hnm : (mtd y).1.name ≠ "<init>") : SITE own (.invokespecial k) 3 y n 1 := by
  intro l p e R s m args below meth c H locs cells slots g AsA rest rm Pc Qc XC mc ms free hx hown hts hB hM0 h1 h2 h3 h4 hbl hpre hrecv hg hsz hst hW hd hf
  have hM := MetL.met hM0
  obtain ⟨t, b, As, r, cell, -, rfl, hn, hr, hcell, hobj, hcls, hat⟩ := hrecv
  have hc : codeW y ∈ lw_all := hm.1
  have hL := hm.2.2.1
  have cw : va_CS R s args own k (mtd y).1 (mtd y).2.1 (mtd y).2.2.1 (mtd y).2.2.2.1 (wsd y) rm mc ms n := by
    refine ⟨⟨h1, h2, h3, by omega, pay_in hts (wsd_good hc), by rw [← codeW_plain hp]; exact List.mem_cons_self⟩, hts _ hl, hts _ hsm, hts _ hsu, hts _ hi, hts _ hm.2.1, by rw [← codeW_plain hp]; exact hts _ hc, hnm, mok_n hm⟩
  exact vx_runSU (As := As) (b := b) (C := r.1) hat ⟨hx, rfl, rfl, hown, hts⟩ hM cw ⟨hbl, ⟨cell, hcell, hobj, hcls⟩, hpre⟩ hg hn hsz (by rw [hst]; simp) hW hd hf
/-- a call through an object of class t: y is what x selects there -/
def SelV (t y : Nat) : Prop := ∃ r : vw_C, CL[t]? = some r ∧ ∀ (s : State) (args : Array Value), (∀ w ∈ lw_all, w.before args s = true) → BaseW s → ClassAt s r.1 ((s.vm.findClass r.1).getD 0) → (Jvm.Cond.selects r.1 (mtd y).1 (mtd y).1).before args s = true
theorem selV_of {t y : Nat} {r : vw_C} (hr : CL[t]? = some r) (h : Jvm.Cond.selects r.1 (mtd y).1 (mtd y).1 ∈ lw_all) : SelV t y := ⟨r, hr, fun s args hts _ _ => hts _ h⟩
/-- a private method of a superclass that can't be made: another word tells that the superclass is no interface -/
theorem selV_priv {t y : Nat} {r : vw_C} {x2 y2 : MethodName} (hr : CL[t]? = some r) (h2 : Jvm.Cond.selects r.1 x2 y2 ∈ lw_all) (he : y2.cls = (mtd y).1.cls) (hp : Jvm.Cond.privateMethod (mtd y).1 ∈ lw_tbl) (hi : Jvm.Cond.instanceMethod (mtd y).1 ∈ lw_all) (hy : (mtd y).1.cls ≠ "java/lang/invoke/MethodHandle" ∧ (mtd y).1.cls ≠ "java/lang/invoke/VarHandle") : SelV t y := by
  refine ⟨r, hr, fun s args hts hB hat => ?_⟩
  obtain ⟨c2, r2, m2, q1, q2, q3, q4, kP, hkP, hni⟩ := Cond.selects_spec (hts _ h2)
  obtain ⟨mk, methM, hnamed, hmethM, -, -⟩ := Cond.instanceMethod_spec (hts _ hi)
  have hfound : s.methodFound? (mtd y).1.cls (mtd y).1.name (mtd y).1.desc = some mk := State.methodFound?_of_named hnamed hy
  have e1 : m2.cls = mk.cls := by
    have a1 := findClass_of_methodNamed hnamed
    have a2 := findClass_of_methodNamed q3
    rw [he] at a2
    exact Option.some.inj (a2.symm.trans a1)
  have hsel : selectMethod {} s.vm c2 mk = .method mk := selectMethod_private hmethM (Cond.privateMethod_at (va_Nw.use (A := args) rfl (hB.1 _ hp rfl)) mk methM hnamed hmethM)
  rw [e1] at hkP
  simp only [Cond.before, Cond.holds, Cond.value, q1, hfound, hnamed, hsel, hkP]
  simp
  exact hni
theorem site_V {t : Nat} (hm : MOK y n) (hp : (mtd y).2.2.2.2 = []) (hl : Jvm.Cond.methodLink own k (mtd y).1 ∈ lw_all) (hi : Jvm.Cond.instanceMethod (mtd y).1 ∈ lw_all) (hs : SelV t y) : SITE own (.invokevirtual k) 3 y n (t + 2) := by
  intro l p e R s m args below meth c H locs cells slots g AsA rest rm Pc Qc XC mc ms free hx hown hts hB hM0 h1 h2 h3 h4 hbl hpre hrecv hg hsz hst hW hd hf
  have hM := MetL.met hM0
  obtain ⟨t', b, As, r, cell, ht, rfl, hn, hr, hcell, hobj, hcls, hat⟩ := hrecv
  have : t' = t := by omega
  subst this
  obtain ⟨r', hr', hs⟩ := hs
  cases hr.symm.trans hr'
  exact vx_runV (As := As) (b := b) (C := r.1) ⟨hx, rfl, rfl, hown, hts⟩ hM ⟨callB_mk hts hm hp hl h1 h2 h3 h4, hts _ hi, hs s args hts hB (by rw [hcls]; exact hat)⟩ ⟨hbl, ⟨cell, hcell, hobj, hcls⟩, hpre⟩ hg hn hsz (by rw [hst]; simp) hW hd hf
theorem site_VW {t : Nat} (hm : MOK y n) (hp : (mtd y).2.2.2.2 ≠ []) (hl : Jvm.Cond.methodLink own k (mtd y).1 ∈ lw_all) (hi : Jvm.Cond.instanceMethod (mtd y).1 ∈ lw_all) (hs : SelV t y) : SITE own (.invokevirtual k) 3 y n (t + 2) := by
  intro l p e R s m args below meth c H locs cells slots g AsA rest rm Pc Qc XC mc ms free hx hown hts hB hM0 h1 h2 h3 h4 hbl hpre hrecv hg hsz hst hW hd hf
  have hM := MetL.met hM0
  obtain ⟨t', b, As, r, cell, ht, rfl, hn, hr, hcell, hobj, hcls, hat⟩ := hrecv
  have : t' = t := by omega
  subst this
  obtain ⟨r', hr', hs⟩ := hs
  cases hr.symm.trans hr'
  have hc : codeW y ∈ lw_all := hm.1
  have hL := hm.2.2.1
  exact vx_runVX (hh := (mtd y).2.2.2.2) (maxL := (mtd y).2.2.1) (bytes := (mtd y).2.1) (ret := (mtd y).2.2.2.1) (As := As) (b := b) (C := r.1) ⟨hx, rfl, rfl, hown, hts⟩ hM ⟨⟨h1, h2, h3, by omega, pay_in hts (wsd_good hc), by rw [← codeW_with hp]; exact List.mem_cons_self⟩, by rw [← codeW_with hp]; exact hts _ hc, hts _ hm.2.1, hm.2.2.2.1, mok_n hm, hts _ hl, hts _ hi, hs s args hts hB (by rw [hcls]; exact hat)⟩ ⟨hbl, ⟨cell, hcell, hobj, hcls⟩, hpre⟩ hg hn hsz (by rw [hst]; simp) hW hd hf
theorem site_VN {t : Nat} {host : String} (hm : MOK y n) (hp : (mtd y).2.2.2.2 = []) (hl : Jvm.Cond.methodLinkNest own k (mtd y).1 host ∈ lw_tbl) (hi : Jvm.Cond.instanceMethod (mtd y).1 ∈ lw_all) (hs : SelV t y) : SITE own (.invokevirtual k) 3 y n (t + 2) := by
  intro l p e R s m args below meth c H locs cells slots g AsA rest rm Pc Qc XC mc ms free hx hown hts hB hM0 h1 h2 h3 h4 hbl hpre hrecv hg hsz hst hW hd hf
  have hM := MetL.met hM0
  obtain ⟨t', b, As, r, cell, ht, rfl, hn, hr, hcell, hobj, hcls, hat⟩ := hrecv
  have : t' = t := by omega
  subst this
  obtain ⟨r', hr', hs⟩ := hs
  cases hr.symm.trans hr'
  have hc : codeW y ∈ lw_all := hm.1
  have hL := hm.2.2.1
  exact vx_runVN (host := host) (maxL := (mtd y).2.2.1) (bytes := (mtd y).2.1) (ret := (mtd y).2.2.2.1) (As := As) (b := b) (C := r.1) ⟨hx, rfl, rfl, hown, hts⟩ hM ⟨⟨⟨h1, h2, h3, by omega, pay_in hts (wsd_good hc), by rw [← codeW_plain hp]; exact List.mem_cons_self⟩, by rw [← codeW_plain hp]; exact hts _ hc, hts _ hm.2.1, hm.2.2.2.1, mok_n hm, va_Nw.use rfl (hB.1 _ hl rfl)⟩, hts _ hi, hs s args hts hB (by rw [hcls]; exact hat)⟩ ⟨hbl, ⟨cell, hcell, hobj, hcls⟩, hpre⟩ hg hn hsz (by rw [hst]; simp) hW hd hf
/-- x names another class's member, or an overridden or abstract one -/
def SelU (t : Nat) (x : MethodName) (owner : String) (y : Nat) : Prop := (∃ r : vw_C, CL[t]? = some r ∧ Jvm.Cond.selects r.1 x (mtd y).1 ∈ lw_all) ∧ Jvm.Cond.instanceMethod (mtd y).1 ∈ lw_all ∧ Jvm.Cond.sameMethod x.cls owner x.name x.desc ∈ lw_all ∧ (owner ≠ "java/lang/invoke/MethodHandle" ∧ owner ≠ "java/lang/invoke/VarHandle") ∧ x.desc = (mtd y).1.desc ∧
  ∀ (s : State) (args : Array Value), (∀ w ∈ lw_all, w.before args s = true) → BaseW s → va_Decl s ⟨owner, x.name, x.desc⟩
theorem site_U {t : Nat} {x : MethodName} {owner : String} (hm : MOK y n) (hp : (mtd y).2.2.2.2 = []) (hl : Jvm.Cond.methodLink own k x ∈ lw_all) (hs : SelU t x owner y) : SITE own (.invokevirtual k) 3 y n (t + 2) := by
  intro l p e R s m args below meth c H locs cells slots g AsA rest rm Pc Qc XC mc ms free hx hown hts hB hM0 h1 h2 h3 h4 hbl hpre hrecv hg hsz hst hW hd hf
  have hM := MetL.met hM0
  obtain ⟨t', b, As, r, cell, ht, rfl, hn, hr, hcell, hobj, hcls, hat⟩ := hrecv
  have : t' = t := by omega
  subst this
  obtain ⟨⟨r', hr', hsel⟩, hi, hsm, hmh, hde, hdec⟩ := hs
  cases hr.symm.trans hr'
  have hc : codeW y ∈ lw_all := hm.1
  have hL := hm.2.2.1
  have cw : va_CU R s args own r.1 owner k x (mtd y).1 (mtd y).2.1 (mtd y).2.2.1 (mtd y).2.2.2.1 (wsd y) rm mc ms n := by
    refine ⟨⟨h1, h2, h3, by omega, pay_in hts (wsd_good hc), by rw [← codeW_plain hp]; exact List.mem_cons_self⟩, by rw [← codeW_plain hp]; exact hts _ hc, hts _ hm.2.1, hmh, by rw [hde]; exact mok_n hm, hts _ hl, hts _ hsm, hdec s args hts hB, hts _ hsel, hts _ hi⟩
  exact vx_runU (As := As) (b := b) (C := r.1) ⟨hx, rfl, rfl, hown, hts⟩ hM cw ⟨hbl, ⟨cell, hcell, hobj, hcls⟩, hpre⟩ hg hn hsz (by rw [hst]; simp) hW hd hf
/-- through an interface -/
theorem site_F {t j : Nat} {x : MethodName} {r : vw_C} (hm : MOK y n) (hp : (mtd y).2.2.2.2 = []) (hl : Jvm.Cond.methodLink own k x ∈ lw_all) (hr : CL[t]? = some r) (hF : (r.1, x, (mtd y).1) ∈ FWL) (hsel : Jvm.Cond.selects r.1 x (mtd y).1 ∈ lw_all) (hi : Jvm.Cond.instanceMethod (mtd y).1 ∈ lw_all) (hde : x.desc = (mtd y).1.desc) : SITE own (.invokeinterface k j) 5 y n (t + 2) := by
  intro l p e R s m args below meth c H locs cells slots g AsA rest rm Pc Qc XC mc ms free hx hown hts hB hM0 h1 h2 h3 h4 hbl hpre hrecv hg hsz hst hW hd hf
  have hM := MetL.met hM0
  obtain ⟨t', b, As, r', cell, ht, rfl, hn, hr', hcell, hobj, hcls, hat⟩ := hrecv
  have : t' = t := by omega
  subst this
  cases hr.symm.trans hr'
  have hc : codeW y ∈ lw_all := hm.1
  have hL := hm.2.2.1
  obtain ⟨f1, f2, f3, f4, f5⟩ := hB.2 _ hF
  have cw : va_CI R s args own r.1 k x (mtd y).1 (mtd y).2.1 (mtd y).2.2.1 (mtd y).2.2.2.1 (wsd y) rm mc ms n := by
    refine ⟨⟨h1, h2, h3, by omega, pay_in hts (wsd_good hc), by rw [← codeW_plain hp]; exact List.mem_cons_self⟩, hts _ hl, va_any rfl f1, va_any rfl f2, hts _ hsel, hts _ hi, va_any rfl f3, va_any rfl f4, va_any rfl f5, hts _ hm.2.1, by rw [← codeW_plain hp]; exact hts _ hc, FWL_ok _ hF, by rw [hde]; exact mok_n hm⟩
  exact vx_runF (As := As) (b := b) (C := r.1) hat ⟨hx, rfl, rfl, hown, hts⟩ hM cw ⟨hbl, ⟨cell, hcell, hobj, hcls⟩, hpre⟩ hg hn hsz (by rw [hst]; simp) hW hd hf
/-- through an interface, a method with handlers -/
theorem site_FW {t j : Nat} {x : MethodName} {r : vw_C} (hm : MOK y n) (hp : (mtd y).2.2.2.2 ≠ []) (hl : Jvm.Cond.methodLink own k x ∈ lw_all) (hr : CL[t]? = some r) (hF : (r.1, x, (mtd y).1) ∈ FWL) (hsel : Jvm.Cond.selects r.1 x (mtd y).1 ∈ lw_all) (hi : Jvm.Cond.instanceMethod (mtd y).1 ∈ lw_all) (hde : x.desc = (mtd y).1.desc) : SITE own (.invokeinterface k j) 5 y n (t + 2) := by
  intro l p e R s m args below meth c H locs cells slots g AsA rest rm Pc Qc XC mc ms free hx hown hts hB hM0 h1 h2 h3 h4 hbl hpre hrecv hg hsz hst hW hd hf
  have hM := MetL.met hM0
  obtain ⟨t', b, As, r', cell, ht, rfl, hn, hr', hcell, hobj, hcls, hat⟩ := hrecv
  have : t' = t := by omega
  subst this
  cases hr.symm.trans hr'
  have hc : codeW y ∈ lw_all := hm.1
  have hL := hm.2.2.1
  obtain ⟨f1, f2, f3, f4, f5⟩ := hB.2 _ hF
  have cw : va_CIW R s args own r.1 k x (mtd y).1 (mtd y).2.1 (mtd y).2.2.1 (mtd y).2.2.2.1 (mtd y).2.2.2.2 (wsd y) rm mc ms n := by
    refine ⟨⟨h1, h2, h3, by omega, pay_in hts (wsd_good hc), by rw [← codeW_with hp]; exact List.mem_cons_self⟩, hts _ hl, va_any rfl f1, va_any rfl f2, hts _ hsel, hts _ hi, va_any rfl f3, va_any rfl f4, va_any rfl f5, hts _ hm.2.1, by rw [← codeW_with hp]; exact hts _ hc, FWL_ok _ hF, by rw [hde]; exact mok_n hm⟩
  exact vx_runFW (As := As) (b := b) (C := r.1) hat ⟨hx, rfl, rfl, hown, hts⟩ hM cw ⟨hbl, ⟨cell, hcell, hobj, hcls⟩, hpre⟩ hg hn hsz (by rw [hst]; simp) hW hd hf
/-- through an interface, of a class whose readiness no word tells -/
theorem site_FL {t j : Nat} {x : MethodName} {r : vw_C} (hm : codeW y ∈ lw_all ∧ (mtd y).2.2.1 ≤ 21 ∧ (parseMethodDescriptor (mtd y).1.desc).map (fun d => d.parameters.length) = some n) (hp : (mtd y).2.2.2.2 = []) (hl : Jvm.Cond.methodLink own k x ∈ lw_all) (hr : CL[t]? = some r) (hF : (r.1, x, (mtd y).1) ∈ FWL) (hsel : Jvm.Cond.selects r.1 x (mtd y).1 ∈ lw_all) (hi : Jvm.Cond.instanceMethod (mtd y).1 ∈ lw_all) (hde : x.desc = (mtd y).1.desc) : SITE own (.invokeinterface k j) 5 y n (t + 2) := by
  intro l p e R s m args below meth c H locs cells slots g AsA rest rm Pc Qc XC mc ms free hx hown hts hB hM0 h1 h2 h3 h4 hbl hpre hrecv hg hsz hst hW hd hf
  obtain ⟨t', b, As, r', cell, ht, rfl, hn, hr', hcell, hobj, hcls, hat⟩ := hrecv
  have : t' = t := by omega
  subst this
  cases hr.symm.trans hr'
  have hc : codeW y ∈ lw_all := hm.1
  have hL := hm.2.1
  obtain ⟨f1, f2, f3, f4, f5⟩ := hB.2 _ hF
  refine runFL (As := As) (b := b) (C := r.1) (x := x) (y := (mtd y).1) (n := n) (bytes := (mtd y).2.1) (maxL := (mtd y).2.2.1) (ret := (mtd y).2.2.2.1) hat ⟨hx, rfl, rfl, hown, hts⟩ hM0
    ⟨h1, h2, h3, by omega, pay_in hts (wsd_good hc), by rw [← codeW_plain hp]; exact List.mem_cons_self⟩
    ⟨hts _ hl, va_any rfl f1, va_any rfl f2, hts _ hsel, hts _ hi, va_any rfl f3, va_any rfl f4, va_any rfl f5, by rw [← codeW_plain hp]; exact hts _ hc, FWL_ok _ hF, ?_⟩ ⟨hbl, ⟨cell, hcell, hobj, hcls⟩, hpre⟩ hg hn hsz (by rw [hst]; simp) hW hd hf
  intro sig h
  rw [hde] at h
  have h2 := hm.2.2
  rw [h] at h2
  exact (Option.some.inj h2).symm
end SITES
