/-! CATCHING, part 4: the contract of a method with one try -/
def am_nca (A B : String) (U : State) : Prop := ∃ c t, U.vm.findClass A = some c ∧ U.vm.findClass B = some t ∧ U.vm.assignable c t = false
theorem am_nca.to {A B : String} {u U : State} (hW : u.vm.Alike U.vm) (h : am_nca A B u) : am_nca A B U := by
  obtain ⟨c, t, h1, h2, h3⟩ := h
  exact ⟨c, t, by rw [hW.findClass]; exact h1, by rw [hW.findClass]; exact h2, by rw [hW.assignable]; exact h3⟩
def am_NC (U : State) : Prop := am_nca (am_exN 2) (am_exN 1) U ∧ am_nca (am_exN 3) (am_exN 2) U
def am_PcW (w : AW) (G : AG) (tags : List Nat) (xs : List Int) (σ : AMem) : Array Value → State → Prop := va_Pc (am_vals w.1 tags xs) (fun U => (∀ v ∈ List.zip tags xs, am_ok v) ∧ am_rep w G σ U.heap ∧ am_K w U ∧ am_St w U U.heap ∧ w.1 ≤ U.heap.size ∧ am_NC U)
/-- a wrapper as the law sees it: number, name and code, its handlers, tags, room, meaning -/
abbrev AY : Type := Nat × (MethodName × ByteArray × Nat) × List (Nat × Nat × Nat × Nat) × List Nat × Room × (List Int → AMem → (Int → AMem → Prop) → Prop)
def am_cw (a : AY) : Cond := Cond.codeWith a.2.1.1 a.2.1.2.1 a.2.1.2.2 (some .int) a.2.2.1
def am_SY (l : Launch) (w : AW) (G : AG) (a : AY) : Prop := (am_cw a ∈ am_tbl ∧ Cond.initialized a.2.1.1.cls ∈ am_tbl ∧ Cond.static a.2.1.1 ∈ am_tbl ∧ (parseMethodDescriptor a.2.1.1.desc).map (fun d => d.parameters.length) = some a.2.2.2.1.length) ∧
  ∀ (xs : List Int) (σ : AMem) (Q : Int → AMem → Prop), a.2.2.2.2.2 xs σ Q → xs.length = a.2.2.2.1.length → Met l a.2.1.1 (am_cw a :: am_tbl) a.2.2.2.2.1 (am_PcW w G a.2.2.2.1 xs σ) (am_Qc w G 0 Q) 1 6 (fun q => w.1 ≤ q)
/-- the rows: their kinds; a row's class stands in the pool; each covers the call -/
def am_hp : List (Nat × Nat × Nat × Nat) → List Nat → Nat → Option Nat
  | (_, _, h, _) :: rs, k0 :: ks, k => if k = k0 then some h else am_hp rs ks k
  | _, _, _ => none
def am_chkH (own : String) (pc : Nat) : List (Nat × Nat × Nat × Nat) → List Nat → Bool
  | [], [] => true
  | (s, e, _, i) :: rs, k0 :: ks => decide (s ≤ pc) && decide (pc < e) && decide (i ≠ 0) && tables_1.contains (.classLink own i (am_exN k0)) && tables_1.contains (.castable (am_exN k0) (am_exN k0)) && am_chkH own pc rs ks
  | _, _ => false
def am_kinds (ks : List Nat) : Bool := decide (ks = [1]) || decide (ks = [2]) || decide (ks = [3]) || decide (ks = [1, 2]) || decide (ks = [2, 3])
theorem am_row {e : Env} {s : State} {m : MethodId} {args : Array Value} {own : String} {pc : Nat} (hown : s.vm.findClass own = some m.cls) (hT : ∀ q ∈ am_tbl, q.before args s = true) (hD : ∀ q ∈ am_dw, va_Nw q s) (hpl : e.platform.magicAccessors = ({} : Platform).magicAccessors) {x : ExceptionTableEntry} {a b h i k0 : Nat} (hx : (x.startPc, x.endPc, x.handlerPc, x.catchType) = (a, b, h, i))
    (h1 : a ≤ pc) (h2 : pc < b) (h3 : i ≠ 0) (h4 : tables_1.contains (.classLink own i (am_exN k0)) = true) (h5 : tables_1.contains (.castable (am_exN k0) (am_exN k0)) = true) :
    covers x pc = true ∧ x.catchType ≠ 0 ∧ ∃ c, s.vm.findClass (am_exN k0) = some c ∧ s.vm.ClassLinks e.platform m.cls x.catchType c ∧ s.vm.assignable c c = true ∧ x.handlerPc = h := by
  simp only [Prod.mk.injEq] at hx
  obtain ⟨e1, e2, e3, e4⟩ := hx
  obtain ⟨c, g1, g2⟩ := Cond.classLink_spec hown (hT _ (am_in_tbl (List.contains_iff_mem.mp h4) rfl)) e.platform hpl
  obtain ⟨c', t', g3, g4, g5⟩ := Cond.castable_spec (va_Nw.use (A := args) rfl (hD _ (List.mem_filter.mpr ⟨List.contains_iff_mem.mp h5, rfl⟩)))
  cases g1.symm.trans g3
  cases g1.symm.trans g4
  refine ⟨?_, by rw [e4]; exact h3, c, g1, by rw [e4]; exact g2, g5, e3⟩
  simp only [covers, e1, e2, Bool.and_eq_true, decide_eq_true_eq]
  exact ⟨h1, h2⟩
theorem am_hnd_of {e : Env} {s : State} {m : MethodId} {args : Array Value} {own : String} {pc : Nat} (hown : s.vm.findClass own = some m.cls) (hT : ∀ q ∈ am_tbl, q.before args s = true) (hD : ∀ q ∈ am_dw, va_Nw q s) (hN : am_NC s) (hpl : e.platform.magicAccessors = ({} : Platform).magicAccessors) {rows : List ExceptionTableEntry} {hh : List (Nat × Nat × Nat × Nat)} {ks : List Nat}
    (hr : rows.map (fun h => (h.startPc, h.endPc, h.handlerPc, h.catchType)) = hh) (hc : am_chkH own pc hh ks = true) (hk : am_kinds ks = true) {k : Nat} {tc : ClassId} {h : Nat} (htc : s.vm.findClass (am_exN k) = some tc) (hh1 : am_hp hh ks k = some h) : am_hnd e s m.cls pc tc rows h ∧ ∃ kk, s.vm.classes[tc]? = some kk := by
  refine ⟨?_, by obtain ⟨kk, g, -⟩ := Vm.findClass_spec htc; exact ⟨kk, g⟩⟩
  have one : ∀ k0, ks = [k0] → am_hnd e s m.cls pc tc rows h := by
    intro k0 ek
    subst ek
    match hh, rows, hr with
    | [], _, _ => cases hc
    | [(a, b, hd, i)], [x], hr =>
      simp only [am_chkH, Bool.and_eq_true, decide_eq_true_eq] at hc
      obtain ⟨g1, g2, c, g3, g4, g5, g6⟩ := am_row (e := e) hown hT hD hpl (List.cons.inj hr).1 hc.1.1.1.1.1 hc.1.1.1.1.2 hc.1.1.1.2 hc.1.1.2 hc.1.2
      simp only [am_hp] at hh1
      by_cases e0 : k = k0
      · subst e0
        rw [if_pos rfl] at hh1
        cases g3.symm.trans htc
        exact ⟨g1, g2, _, g4, Or.inl ⟨g5, by rw [g6]; exact (Option.some.inj hh1).symm⟩⟩
      · rw [if_neg e0] at hh1; cases hh1
    | (a, b, hd, i) :: y :: r, _, _ => simp [am_chkH] at hc
  have two : ∀ k1 k2, ks = [k1, k2] → am_nca (am_exN k2) (am_exN k1) s → am_hnd e s m.cls pc tc rows h := by
    intro k1 k2 ek hn
    subst ek
    match hh, rows, hr with
    | [], _, _ => cases hc
    | [(a, b, hd, i)], _, _ => simp [am_chkH] at hc
    | [(a, b, hd, i), (a2, b2, hd2, i2)], [x, x2], hr =>
      simp only [am_chkH, Bool.and_eq_true, decide_eq_true_eq] at hc
      obtain ⟨c1, c2⟩ := hc
      obtain ⟨g1, g2, c, g3, g4, g5, g6⟩ := am_row (e := e) hown hT hD hpl (List.cons.inj hr).1 c1.1.1.1.1 c1.1.1.1.2 c1.1.1.2 c1.1.2 c1.2
      obtain ⟨f1, f2, d, f3, f4, f5, f6⟩ := am_row (e := e) hown hT hD hpl (List.cons.inj (List.cons.inj hr).2).1 c2.1.1.1.1.1 c2.1.1.1.1.2 c2.1.1.1.2 c2.1.1.2 c2.1.2
      obtain ⟨cn, tn, n1, n2, n3⟩ := hn
      cases n1.symm.trans f3
      cases n2.symm.trans g3
      simp only [am_hp] at hh1
      by_cases e0 : k = k1
      · subst e0
        rw [if_pos rfl] at hh1
        cases g3.symm.trans htc
        exact ⟨g1, g2, _, g4, Or.inl ⟨g5, by rw [g6]; exact (Option.some.inj hh1).symm⟩⟩
      · rw [if_neg e0] at hh1
        by_cases e9 : k = k2
        · subst e9
          rw [if_pos rfl] at hh1
          cases f3.symm.trans htc
          exact ⟨g1, g2, _, g4, Or.inr ⟨n3, f1, f2, _, f4, Or.inl ⟨f5, by rw [f6]; exact (Option.some.inj hh1).symm⟩⟩⟩
        · rw [if_neg e9] at hh1; cases hh1
    | (a, b, hd, i) :: (a2, b2, hd2, i2) :: z :: r, _, _ => simp [am_chkH] at hc
  unfold am_kinds at hk
  simp only [Bool.or_eq_true, decide_eq_true_eq] at hk
  rcases hk with (((hk | hk) | hk) | hk) | hk
  · exact one _ hk
  · exact one _ hk
  · exact one _ hk
  · exact two _ _ hk hN.1
  · exact two _ _ hk hN.2
def am_TY (G : AG) (cal : List AC) (calX : List AX) (full : List aE) (hh : List (Nat × Nat × Nat × Nat)) (ks tags : List Nat) (fuel : Nat) : List Int → AMem → (Int → AMem → Prop) → Prop := fun xs σ Q => am_mk (0, am_argp 0 tags, []) xs (fun L S => am_blkC G cal calX full (am_hp hh ks) Q fuel false 0 full L S σ)
def am_pcs (full : List aE) : List Nat := full.filterMap (fun e => match e.2.2.1 with | .invokevirtual _ => some e.1 | _ => none)
theorem am_soundY {l : Launch} {w : AW} {G : AG} {cal : List AC} {calX : List AX} (k : Nat) (y : MethodName) (cc : ByteArray) (nL : Nat) (hh : List (Nat × Nat × Nat × Nat)) (ks : List Nat) (tags : List Nat) (rm : Room) (own : String) (full : List aE) (fuel : Nat)
    (hms : am_cw (k, (y, cc, nL), hh, tags, rm, am_TY G cal calX full hh ks tags fuel) ∈ am_tbl ∧ Cond.initialized y.cls ∈ am_tbl ∧ Cond.static y ∈ am_tbl ∧ (parseMethodDescriptor y.desc).map (fun d => d.parameters.length) = some tags.length) (hpl : plainName y.cls = true) (ho : own = y.cls) (hcal : ∀ a ∈ cal, am_S l w G a) (hcalX : ∀ a ∈ calX, am_SX l w G a)
    (hst : (am_chkR rm cal && am_chkRX rm calX && decide (1 ≤ rm.cells ∧ 6 ≤ rm.slots) && full.all (fun e => !am_isS e.2.2.1) && full.all (am_chk own cc nL (some .int) cal) && full.all (am_chkX own calX) && (am_pcs full).all (fun pc => am_chkH own pc hh ks) && am_kinds ks && decide (am_argn tags ≤ nL)) = true) :
    am_SY l w G (k, (y, cc, nL), hh, tags, rm, am_TY G cal calX full hh ks tags fuel) := by
  simp only [Bool.and_eq_true, decide_eq_true_eq] at hst
  obtain ⟨⟨⟨⟨⟨⟨⟨⟨hrm, hrmX⟩, hrc, hrs⟩, hS⟩, hchk⟩, hchkX⟩, hH⟩, hks⟩, hn⟩ := hst
  rw [List.all_eq_true] at hchk hchkX hS hH
  refine ⟨hms, fun xs σ Q hTm hlen => ?_⟩
  refine va_MetW (cc := cc) (maxL := nL) (ret := some .int) (hh := hh) hpl rfl ?_
  intro p e s m args below meth c s₁ BB hml hv
  obtain ⟨rfl, hok, hrep, hK, hS0, hw0, hN⟩ := hv
  have hx := BB.exec
  have hb := BB.bytes
  have hr := BB.returns
  have hts := atoms_spec (ws := am_cw (k, (y, cc, nL), hh, tags, rm, am_TY G cal calX full hh ks tags fuel) :: am_tbl) BB.pre
  have hT : ∀ q ∈ am_tbl, q.before (am_vals w.1 tags xs).toArray s = true := fun q hq => hts q (List.mem_cons_of_mem _ hq)
  have hown : s.vm.findClass own = some m.cls := by rw [ho]; exact findClass_of_methodNamed BB.named
  have hlk := BB.notSynchronized
  have hrows : c.exceptionTable.toList.map (fun h => (h.startPc, h.endPc, h.handlerPc, h.catchType)) = hh := by
    obtain ⟨m', meth', c', g1, g2, g3, -, -, g4, -⟩ := Cond.codeWith_spec (hts _ List.mem_cons_self)
    cases BB.named.symm.trans g1
    cases BB.method.symm.trans g2
    have X := Stand.of_body BB
    cases X.code.symm.trans g3
    exact g4
  have hplf : e.platform.magicAccessors = ({} : Platform).magicAccessors := by rw [BB.admits.platform]
  have key : am_mk (0, am_argp 0 tags, []) xs (fun L S => am_M p l e rm s m (am_vals w.1 tags xs).toArray below meth c (MQ below (am_Qc w G 0 Q) (am_vals w.1 tags xs).toArray s 1 6 (fun q => w.1 ≤ q)) w G 0 0 nL 0 L S σ) :=
    am_mk_mono (fun L S q => am_blkC_ok (R := rm) hx hb hml hlk hr hown hT hK hS0 hw0 hcal hcalX hrm hrmX hrc hrs (fun e he => by have := hS e he; simpa using this) hchk hchkX (fun e' he' ⟨idx, hi⟩ k tc h htc hh1 => am_hnd_of hown hT hS0.2.2 hN hplf hrows (hH _ (List.mem_filterMap.mpr ⟨e', he', by rw [hi]⟩)) hks htc hh1) fuel false 0 full L S σ (fun e he => he) q) hTm
  obtain ⟨L, h1, h2, h3⟩ := am_arg_mk w.1 tags xs 0 _ hlen key
  have hl := lv_entry (am_vals w.1 tags xs) (n := nL) (by rw [am_argn_len w.1 tags xs hlen]; exact hn)
  rw [lg_entry_eq]
  exact h1 s.heap [] _ hrep (fun q hq => absurd hq List.not_mem_nil) (Nat.le_refl _) (fun q _ => rfl) (by rw [h2]; exact hl) (fun q hq => hok _ (h3 q hq)) (fun v hv => absurd hv List.not_mem_nil)
