/-! THROWING: a contract whose end is an exception; a call that ends so -/
def am_exN (k : Nat) : String := if k = 1 then "java/lang/IllegalArgumentException" else if k = 2 then "java/lang/IllegalStateException" else "java/util/NoSuchElementException"
/-- the frame of a call that threw: the tables are warmer, nothing old has moved but what 'free' names, at most mc cells of ms slots came -/
def am_FT (free : Addr → Prop) (mc ms : Nat) (st : State) (t : State) : Prop := st.WarmedH t.vm ∧ ∃ L, st.sameButNew ({ t with vm := st.vm } : State) L mc ms ∧ ∀ q ∈ L, free q.base
def am_Qt (w : AW) (G : AG) (E : Nat → AMem → Prop) : Array Value → State → Outcome → State → Prop := fun _ st o t =>
  ∃ (x : Addr) (k : Nat) (σ' : AMem) (cell : Cell), o = .threw x ∧ am_rep w G σ' t.heap ∧ am_K w t ∧ E k σ' ∧ st.heap.size ≤ x ∧ t.heap[x]? = some cell ∧ cell.vm = .none ∧ st.vm.findClass (am_exN k) = some cell.cls ∧ st.heap.size ≤ t.heap.size ∧ (∀ q, q < w.1 → t.heap[q]? = st.heap[q]?) ∧ am_FT (fun q => w.1 ≤ q) 1 6 st t
def am_MT (l : Launch) (y : MethodName) (ws : List Cond) (rm : Room) (Pc : Array Value → State → Prop) (Qc : Array Value → State → Outcome → State → Prop) : Prop := MetFree l y (headSpec ws rm) Pc (fun _ _ _ _ _ => True) Qc
section AMX
variable {p : Program} {l : Launch} {e : Env} {R : Room} {s : State} {m : MethodId} {args : Array Value} {below : List Frame} {meth : Method} {c : Code} {T : State} {locs : List Loc} {cells slots : Nat}
/-- what a callee that throws leaves behind, over the caller's frame g at its call -/
theorem am_backT {y : MethodName} {ws : List Cond} {rm : Room} {Pc : Array Value → State → Prop} {w : AW} {G : AG} {E : Nat → AMem → Prop} {bytes : ByteArray} {maxL : Nat} {ret : Option FieldType} (hM : am_MT l y ws rm Pc (am_Qt w G E))
    (X : Stand p l e R s m args below meth c T locs cells slots) {g : JFrame} {ig : Instr} {len : Nat} {mk : MethodId} {a : Array Value} (hg : g.method = m) (hsize : g.locals.size = c.maxLocals) (hdg : decode c.code g.pc = .ok (ig, len)) (hW : 2 * g.monitorRoom + (g.stack.map fun v => v.category).sum ≤ 16) (hn : T.methodNamed? y = some mk)
    (hframes : rm.frames + 1 ≤ R.frames) (hlocals : 16 + (maxL + 11) + rm.locals ≤ R.locals) (hpre : (allAtoms ws).before a T = true) (hcode : (Cond.code y bytes maxL ret).before a T = true) (hini : (Cond.initialized y.cls).before a T = true) (hc1 : cells + rm.cells ≤ R.cells) (hc2 : slots + rm.slots ≤ R.slots)
    (hP : ∀ mk, Pc a (T.calling g mk a)) :
    ∃ (x : Addr) (k : Nat) (σ' : AMem) (cell : Cell) (T' : State) (L : List Loc), Stand p l e R s m args below meth c T' (locs ++ L) (cells + 1) (slots + 6) ∧ (∀ q ∈ L, w.1 ≤ q.base) ∧ am_rep w G σ' T'.heap ∧ am_K w T' ∧ E k σ' ∧ T.heap.size ≤ x ∧ T'.heap[x]? = some cell ∧ cell.vm = .none ∧ T.vm.findClass (am_exN k) = some cell.cls ∧ T.heap.size ≤ T'.heap.size ∧ (∀ q, q < w.1 → T'.heap[q]? = T.heap[q]?) ∧ T.WarmedH T'.vm ∧
      Steps p.tables e below (doInvoke e (T.setTop g) [] mk a).1 ((T'.setTop g).pushFrame (.throwing x)) := by
  obtain ⟨methY, cY, hmY, hcY, -, hlY, -, -, -, -⟩ := Cond.code_spec hn hcode
  obtain ⟨kY, hkY, -⟩ := className_of_methodNamed hn
  have hinitY : kY.init = .initialized := Cond.initialized_spec (findClass_of_methodNamed hn) hkY hini
  have h : At T g.method c below := by rw [hg]; exact X.here
  have happ : (headSpec ws rm).appliesLoose y e.platform (T.calling g mk a) = true :=
    Spec.appliesLoose_calling (g := g) h hdg hn hkY hinitY
      (X.room_calling (g := g) (R' := (headSpec ws rm).room) hsize hmY hcY hframes (by rw [hlY]; show _ + _ + rm.locals ≤ _; omega) hc1 hc2) hpre
  obtain ⟨mid, hmid⟩ := h.above
  have hfr : (T.setTop g).frames = (.java g :: mid) ++ below := by rw [State.frames_setTop' g h.top, hmid]; rfl
  obtain ⟨o, s₂, hsteps, -, hend, hq⟩ := Steps.callFree hM p X.admits X.cas X.clock (acts := []) hfr happ (hP mk) trivial
  rw [State.frames_setTop' g h.top] at hend
  obtain ⟨x, k, σ', cell, rfl, q1, q2, q3, q4, q5, q6, q7, q8, q9, hWm, L, hsame, hL⟩ := hq
  rw [X.tail] at hend
  obtain ⟨T', X', hW', hs', rfl⟩ := X.outOfThrown hg (mk := mk) (a := a) hend hWm hsame
  refine ⟨x, k, σ', cell, T', L, X', hL, ?_, ?_, q3, q4, ?_, q6, q7, ?_, ?_, hW', hsteps⟩
  · rw [Stand.throwing_heap] at q1; exact q1
  · refine ⟨va_K.moved (u := ((T'.setTop g).pushFrame (.throwing x))) (U := T') (by rw [Stand.throwing_vm]; exact Vm.Alike.refl _) q2.1, fun z hz => ?_⟩
    have h1 := q2.2 z hz
    have h2 := (List.mem_filter.mp hz).2
    unfold am_isN at h2
    split at h2
    · exact va_tabs (A := #[]) (u := ((T'.setTop g).pushFrame (.throwing x))) rfl (Stand.throwing_vm T' g x) h1
    · exact va_tabs (A := #[]) (u := ((T'.setTop g).pushFrame (.throwing x))) rfl (Stand.throwing_vm T' g x) h1
    · cases h2
  · rw [Stand.throwing_heap] at q5; exact q5
  · rw [Stand.throwing_heap] at q8; exact q8
  · intro q hq; have := q9 q hq; rw [Stand.throwing_heap] at this; exact this
end AMX
theorem am_same_old {s t : State} {cells slots : Nat} (h : s.sameButNew t [] cells slots) {q : Addr} (hq : q < s.heap.size) : t.heap[q]? = s.heap[q]? := by
  obtain ⟨-, -, -, -, -, h6⟩ := h
  obtain ⟨c, hc⟩ : ∃ c, s.heap[q]? = some c := ⟨_, Array.getElem?_eq_getElem hq⟩
  obtain ⟨c', h1, h2, h3, h4⟩ := h6 q c hc
  rw [h1, hc, h2]
  congr 1
  have : c'.slots = c.slots := by
    apply Array.ext_getElem?
    intro i
    exact h4 i (by simp)
  rw [this]
theorem am_rep_grow {w : AW} {G : AG} {σ : AMem} {H H' : Heap} (hR : am_rep w G σ H) (h : ∀ q, q < H.size → H'[q]? = H[q]?) : am_rep w G σ H' := by
  intro a ha
  obtain ⟨h1, h2, h3⟩ := hR a ha
  refine ⟨h1, fun hk => ?_, fun hk => ?_⟩
  · obtain ⟨t, g1, g2, g2', g3, g4⟩ := h2 hk
    refine ⟨t, g1, g2, g2', ?_, g4⟩
    rw [h _ (Array.getElem?_eq_some_iff.mp g3).1]
    exact g3
  · obtain ⟨q, g1, g2, g3, g4⟩ := h3 hk
    obtain ⟨cell, k1, k2⟩ := id g2
    exact ⟨q, g1, g2.kept (h _ (Array.getElem?_eq_some_iff.mp k1).1), g3, g4⟩
/-- the method's contract out of a walk that ends in an exception -/
theorem am_MT_ofW {l : Launch} {y : MethodName} {ws ws' : List Cond} {rm : Room} {Pc : Array Value → State → Prop} {Qc : Array Value → State → Outcome → State → Prop} {cc : ByteArray} {maxL : Nat} {ret : Option FieldType}
    (hy : plainName y.cls = true) (hw : ws = Cond.code y cc maxL ret :: ws')
    (body : ∀ p e s m args below meth c s₁, BodyLoose p l y (headSpec ws rm) cc maxL ret e s m args below meth c s₁ → c.maxLocals = maxL → Pc args s →
      W p l e (headSpec ws rm).room s m args below meth c s.heap [] 0 0 (fun t => ∃ o, t.status = .running ∧ Ended t below o ∧ Qc args s o t) (entryFrame m args maxL)) : am_MT l y ws rm Pc Qc := by
  refine MetFree.of_bodyS (code := cc) (maxLocals := maxL) (ret := ret) hy ?_ ?_
  · intro args s m h hn
    obtain ⟨meth, c, h1, h2, h3, h4, h5, h6, -, -⟩ := Cond.code_spec hn (atoms_spec (ws := ws) h _ (by rw [hw]; exact List.mem_cons_self))
    exact ⟨meth, c, h1, h2, h3, h4, h5, h6⟩
  · intro p e s m args below meth c s₁ B hml hP _
    have hh0 : s₁.heap = s.heap := by rw [B.state]; rfl
    obtain ⟨t, a1, o, b1, b2, b3⟩ := body p e s m args below meth c s₁ B hml hP s₁ hh0 (Stand.of_body B)
    exact ⟨t, o, a1, b1, b2, b3⟩
/-- the class lays that static field, in a cell below w.1 -/
def am_ls (C n d : String) (w : AW) (U : State) (H : Heap) : Prop := ∃ c k i f a cell, U.vm.findClass C = some c ∧ U.fieldFound? C n d = some (c, k, i, f) ∧ f.isStatic = true ∧ k.statics = some a ∧ a < w.1 ∧ H[a]? = some cell ∧ cell.vm.isStatics = true ∧ cell.cls = c ∧ f.slot < cell.slots.size ∧ k.staticTypes[f.slot]? = some f.type
theorem am_ls.to {C n d : String} {w : AW} {u U : State} {H H1 : Heap} (h : am_ls C n d w u H) (hvm : u.vm.Alike U.vm) (hq : ∀ q, q < w.1 → H1[q]? = H[q]?) : am_ls C n d w U H1 := by
  obtain ⟨c, k, i, f, a, cell, hc, hi, hst, ha, hlw, hcell, hs, hcls, hlt, hty⟩ := h
  obtain ⟨k', hi', hek⟩ := State.fieldFound?_setVm hvm hi
  exact ⟨c, k', i, f, a, cell, by rw [hvm.findClass]; exact hc, hi', hst, by rw [hek]; exact ha, hlw, by rw [hq _ hlw]; exact hcell, hs, hcls, hlt, by rw [hek]; exact hty⟩
theorem am_ls.use {C n d : String} {w : AW} {U : State} {args : Array Value} (h : am_ls C n d w U U.heap) : (Cond.laysStatic C n d).before args U = true := by
  obtain ⟨c, k, i, f, a, cell, hc, hi, hst, ha, hlw, hcell, hs, hcls, hlt, hty⟩ := h
  exact Cond.laysStatic_of hc hi hst ha hcell hs hcls hlt hty
def am_isD (q : Cond) : Bool := match q with | .declares _ => true | .castable _ _ => true | _ => false
def am_dw : List Cond := tables_1.filter am_isD
theorem am_dw.to {u U : State} (hW : u.WarmedH U.vm) (h : ∀ q ∈ am_dw, va_Nw q u) : ∀ q ∈ am_dw, va_Nw q U := by
  intro q hq
  have h1 := h q hq
  have h2 := (List.mem_filter.mp hq).2
  unfold am_isD at h2
  split at h2
  · exact va_Nw.warmD hW h1
  · exact va_Nw.warmC hW h1
  · cases h2
theorem am_dw.use {U : State} {args : Array Value} (h : ∀ q ∈ am_dw, va_Nw q U) : ∀ q ∈ am_dw, q.before args U = true := by
  intro q hq
  have h1 := h q hq
  have h2 := (List.mem_filter.mp hq).2
  unfold am_isD at h2
  split at h2
  · exact va_Nw.use rfl h1
  · exact va_Nw.use rfl h1
  · cases h2
/-- the two statics of Throwable that its constructor reads, and the words of the tables that are not in am_tbl -/
def am_St (w : AW) (U : State) (H : Heap) : Prop := (va_Zq "java/lang/Throwable" "UNASSIGNED_STACK" "[Ljava/lang/StackTraceElement;" (fun a => w.1 ≤ a) U H ∧ va_Zq "java/lang/Throwable" "SUPPRESSED_SENTINEL" "Ljava/util/List;" (fun a => w.1 ≤ a) U H) ∧ (am_ls "java/lang/Throwable" "UNASSIGNED_STACK" "[Ljava/lang/StackTraceElement;" w U H ∧ am_ls "java/lang/Throwable" "SUPPRESSED_SENTINEL" "Ljava/util/List;" w U H) ∧ ∀ q ∈ am_dw, va_Nw q U
theorem am_St.to {w : AW} {u U : State} {H H1 : Heap} (h : am_St w u H) (hW : u.WarmedH U.vm) (hq : ∀ q, q < w.1 → H1[q]? = H[q]?) : am_St w U H1 :=
  ⟨⟨(h.1.1.moved hW.alike).kept (fun a _ ha => hq a (Nat.lt_of_not_le ha)), (h.1.2.moved hW.alike).kept (fun a _ ha => hq a (Nat.lt_of_not_le ha))⟩, ⟨h.2.1.1.to hW.alike hq, h.2.1.2.to hW.alike hq⟩, am_dw.to hW h.2.2⟩
def am_atomX (q : Cond) : Prop := q ∈ am_tbl ∨ q ∈ am_dw ∨ q = .isRef (.static "java/lang/Throwable" "UNASSIGNED_STACK" "[Ljava/lang/StackTraceElement;") ∨ q = .isRef (.static "java/lang/Throwable" "SUPPRESSED_SENTINEL" "Ljava/util/List;") ∨ q = .laysStatic "java/lang/Throwable" "UNASSIGNED_STACK" "[Ljava/lang/StackTraceElement;" ∨ q = .laysStatic "java/lang/Throwable" "SUPPRESSED_SENTINEL" "Ljava/util/List;"
theorem am_Zref {C n d : String} {A : Nat → Prop} {args : Array Value} {s : State} (h : va_Zq C n d A s s.heap) : (Cond.isRef (.static C n d)).before args s = true := by
  have key : ∀ v, (v = .null ∨ ∃ t, v = .ref t) → va_Z C n d v A s s.heap → (Cond.isRef (.static C n d)).before args s = true := by
    intro v hv hz
    obtain ⟨cf, kf, fi, f, a, cell, h1, h2, h3, h4, h5, h6, h7, h8⟩ := hz
    have he : (Term.static C n d).eval args s none [] s = cell.slots[f.slot]? := by
      simp [Term.eval, State.fieldNamed?, h1, h2, h4, h5, h6]
    simp only [Cond.before, Cond.holds, Cond.value]
    rw [he, h7]
    rcases hv with rfl | ⟨t, rfl⟩ <;> rfl
  rcases h with h | ⟨t, h⟩
  · exact key _ (Or.inl rfl) h
  · exact key _ (Or.inr ⟨t, rfl⟩) h
/-- a guard that throws: 'if (!b) throw new X()' -/
theorem am_guard {l : Launch} {w : AW} {G : AG} {σ : AMem} (hfl : l.flags = pinnedFlags ++ [noTraceFlag]) (k : Nat) (y : MethodName) (cc : ByteArray) (iN iI : Nat) (hyc : y.cls = "LinkHouse") (hpl : plainName y.cls = true) (hm : Cond.code y cc 1 none ∈ am_tbl)
    (d0 : decode cc 0 = .ok (.iload_n 0, 1)) (d1 : decode cc 1 = .ok (.ifCond .ne 11, 3)) (d4 : decode cc 4 = .ok (.new iN, 3)) (d7 : decode cc 7 = .ok (.dup, 1)) (d8 : decode cc 8 = .ok (.invokespecial iI, 3)) (d11 : decode cc 11 = .ok (.athrow, 1))
    (hfit : Bundle.fit (am_exN k) = true) (hcl : Cond.classLink "LinkHouse" iN (am_exN k) ∈ am_tbl) (hins : Cond.instantiable (am_exN k) 6 ∈ am_tbl) (hini : Cond.initialized (am_exN k) ∈ am_tbl)
    (hat : ∀ q ∈ Bundle.ownAtoms0 "LinkHouse" iI (am_exN k) ["java/lang/RuntimeException", "java/lang/Exception"], am_atomX q) :
    am_MT l y (Cond.code y cc 1 none :: am_tbl) { frames := 8, cells := 1, slots := 6, locals := 220 } (va_Pc [.int 0] (fun U => am_rep w G σ U.heap ∧ am_K w U ∧ am_St w U U.heap ∧ w.1 ≤ U.heap.size)) (am_Qt w G (fun k' σ' => k' = k ∧ σ' = σ)) := by
  refine am_MT_ofW (cc := cc) (maxL := 1) (ret := none) hpl rfl ?_
  intro p e s m args below meth c s₁ BB hml hv
  obtain ⟨rfl, hrep, hK, hSt, hw1⟩ := hv
  have hx := BB.exec
  have hb := BB.bytes
  have hts := atoms_spec (ws := Cond.code y cc 1 none :: am_tbl) BB.pre
  have hT : ∀ q ∈ am_tbl, q.before [Value.int 0].toArray s = true := fun q hq => hts q (List.mem_cons_of_mem _ hq)
  have hown : s.vm.findClass "LinkHouse" = some m.cls := by rw [← hyc]; exact findClass_of_methodNamed BB.named
  have hlk := BB.notSynchronized
  have hl := lv_entry ([.int 0]) (n := 1) (Nat.le_of_ble_eq_true rfl)
  rw [lg_entry_eq]
  generalize (lg_sl ([.int 0]) ++ List.replicate (1 - (lg_sl ([.int 0])).length) Slot.unset).toArray = ls at hl ⊢
  have hl : lv_has ls 1 [(0, .int 0)] := hl
  refine lv_iload_n hx hb d0 rfl (lv_at hl 0 rfl) ?_
  refine lv_if_ne (tgt := 12) hx hb d1 (by decide) (fun h => absurd rfl h) (fun _ => ?_)
  refine W.newc hx hb hown (hT _ hcl) (hT _ hins) (hT _ hini) rfl d4 (Nat.le_refl _) (Nat.le_refl _) (fun cC kC h1 h2 h3 h4 => ?_)
  refine lv_dup hx hb d7 rfl ?_
  intro T hT' X
  have htr := Launch.traces_off hfl X.admits
  have hcell : T.heap[s.heap.size]? = some (freshCell cC kC) := by rw [hT']; simp [freshCell]
  obtain ⟨U, st, run, ended, hW, hsame, ce, hce, ho⟩ := X.ctorThrow0 hx htr (own := "LinkHouse") (cls := am_exN k) (names := ["java/lang/RuntimeException", "java/lang/Exception"]) (ic := iI) hown hfit (by decide) (fun q hq => by
      rcases hat q hq with h | h | h | h | h | h
      · exact hT q h
      · exact am_dw.use hSt.2.2 q h
      · rw [h]; exact am_Zref hSt.1.1
      · rw [h]; exact am_Zref hSt.1.2
      · rw [h]; exact hSt.2.1.1.use
      · rw [h]; exact hSt.2.1.2.use) (fun x hx => absurd hx List.not_mem_nil) h1 h2 hcell (Nat.le_refl _) (g := F0 m 8 ls [.ref s.heap.size, .ref s.heap.size]) rfl (by rw [hml]; exact hl.1) rfl rfl (rest := []) rfl (by rw [hb]; exact d8) (by rw [hb]; exact d11) (by
      intro x hx
      have h9 := BB.noHandlers (hts _ List.mem_cons_self)
      rw [Array.isEmpty_iff] at h9
      rw [h9] at hx
      simp at hx) (by show 2 + 3 < 8; decide) (by show 2 * 0 + (1 + 0) + (13 * (2 + 1) + 41) ≤ 220; decide) hlk
  refine ⟨U, st, .threw s.heap.size, run, ended, s.heap.size, k, σ, ce, rfl, ?_, hK.moved hW, ⟨rfl, rfl⟩, Nat.le_refl _, hce, ho.vm, ho.cls, hsame.2.1, ?_, hW, [], hsame, fun q hq => absurd hq List.not_mem_nil⟩
  · exact am_rep_grow hrep (fun q hq => am_same_old hsame hq)
  · intro q hq
    exact am_same_old hsame (Nat.lt_of_lt_of_le hq hw1)
