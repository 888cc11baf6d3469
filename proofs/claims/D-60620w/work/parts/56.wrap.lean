/-! CATCHING: rows of an exception table whose classes may be cold -/
section AMC
variable {e : Env} {f : JFrame} {a : Addr}
theorem am_goL {Q : Handler → Pre} {E : CtlPost} {d : Bool} {acts : List Action} {s : State} {x : ExceptionTableEntry} {t : List ExceptionTableEntry} {c : ClassId} {cell : Cell} (hx : covers x f.pc = true) (h0 : x.catchType ≠ 0)
    (hl : s.vm.ClassLinks e.platform f.method.cls x.catchType c) (hcell : s.heap[a]? = some cell) (hobj : ∀ k, cell.vm ≠ .statics k) (hk : ∃ k, s.vm.classes[cell.cls]? = some k) (hc : ∃ k, s.vm.classes[c]? = some k) :
    wp (findHandler.go f a (x :: t)) Q E e d acts s ↔ if s.vm.assignable cell.cls c = true then Q (.found x.handlerPc) d acts (s.setVm (s.vm.noted f.method.cls x.catchType (.cls c))) else wp (findHandler.go f a t) Q E e d acts (s.setVm (s.vm.noted f.method.cls x.catchType (.cls c))) := by
  simp only [covers] at hx
  obtain ⟨ha, ht⟩ := (resolveClass_links e.toSetting hl).op (op := VmOp.resolveClass f.method.cls x.catchType) rfl
  have hal : s.vm.Alike (s.vm.noted f.method.cls x.catchType (.cls c)) := (Vm.Alike.refl s.vm).noted _ _ _
  obtain ⟨k1, hk1⟩ := hk
  obtain ⟨k2, hk2⟩ := hc
  obtain ⟨k1', hk1', -⟩ := hal.2.2 _ _ hk1
  obtain ⟨k2', hk2', -⟩ := hal.2.2 _ _ hk2
  have hfit' : (s.vm.noted f.method.cls x.catchType (.cls c)).assignable cell.cls c = s.vm.assignable cell.cls c := hal.assignable _ _
  cases hfit : s.vm.assignable cell.cls c <;> rw [hfit] at hfit' <;> simp [findHandler.go, hx, h0, ha, ht, hcell, hobj, hk1', hk2', hfit', VmOp.dirties, VmOp.acts]
/-- the rows send the exception of class tc to the handler h -/
def am_hnd (e : Env) (s0 : State) (fc : ClassId) (pc : Nat) (tc : ClassId) : List ExceptionTableEntry → Nat → Prop
  | [], _ => False
  | x :: t, h => covers x pc = true ∧ x.catchType ≠ 0 ∧ ∃ c, s0.vm.ClassLinks e.platform fc x.catchType c ∧ ((s0.vm.assignable tc c = true ∧ h = x.handlerPc) ∨ (s0.vm.assignable tc c = false ∧ am_hnd e s0 fc pc tc t h))
theorem am_search {s0 : State} {cell : Cell} (hobj : ∀ k, cell.vm ≠ .statics k) (hk : ∃ k, s0.vm.classes[cell.cls]? = some k) {h : Nat} : ∀ (rows : List ExceptionTableEntry) (S : State), s0.WarmedH S.vm → S.heap[a]? = some cell → am_hnd e s0 f.method.cls f.pc cell.cls rows h →
    ∃ vm', s0.WarmedH vm' ∧ ∀ (Q : Handler → Pre) (E : CtlPost) (d : Bool) (acts : List Action), wp (findHandler.go f a rows) Q E e d acts S ↔ Q (.found h) d acts (S.setVm vm')
  | [], S, _, _, hh => hh.elim
  | x :: t, S, hW, hcell, hh => by
    obtain ⟨hx, h0, c, hl, hh⟩ := hh
    obtain ⟨dk, _, _, kt, hd, _, _, _, _, hkt, _, hopen⟩ := hl.here
    have hW' : s0.WarmedH (S.vm.noted f.method.cls x.catchType (.cls c)) := hW.noted hd hopen (State.rightAt_cls hl)
    have hk1 : ∃ k, S.vm.classes[cell.cls]? = some k := by obtain ⟨k1, hk1⟩ := hk; obtain ⟨k, h1, -⟩ := hW.alike.2.2 _ _ hk1; exact ⟨k, h1⟩
    have hk2 : ∃ k, S.vm.classes[c]? = some k := by obtain ⟨k, h1, -⟩ := hW.alike.2.2 _ _ hkt; exact ⟨k, h1⟩
    have key := fun (Q : Handler → Pre) (E : CtlPost) (d : Bool) (acts : List Action) => am_goL (Q := Q) (E := E) (d := d) (acts := acts) (t := t) hx h0 (hW.classLinks hl) hcell hobj hk1 hk2
    rw [hW.alike.assignable] at key
    rcases hh with ⟨hf, rfl⟩ | ⟨hf, hh⟩
    · refine ⟨_, hW', fun Q E d acts => ?_⟩
      rw [key, if_pos hf]
    · obtain ⟨vm', g1, g2⟩ := am_search hobj hk t (S.setVm (S.vm.noted f.method.cls x.catchType (.cls c))) hW' hcell hh
      refine ⟨vm', g1, fun Q E d acts => ?_⟩
      rw [key, if_neg (by rw [hf]; decide), g2]
      rfl
end AMC
/-- caught in the walked method, the rows' classes cold or warm -/
theorem am_caught {p : Program} {l : Launch} {e : Env} {R : Room} {s : State} {m : MethodId} {args : Array Value} {below : List Frame} {meth : Method} {c : Code} {T : State} {locs : List Loc} {cells slots : Nat}
    (X : Stand p l e R s m args below meth c T locs cells slots) (x : Addr) {g : JFrame} (hg : g.method = m) {cell : Cell} (hcell : T.heap[x]? = some cell) (hobj : ∀ k, cell.vm ≠ .statics k) (hk : ∃ k, s.vm.classes[cell.cls]? = some k) {h : Nat} (hh : am_hnd e s m.cls g.pc cell.cls c.exceptionTable.toList h) :
    ∃ vm', Stand p l e R s m args below meth c (T.setVm vm') locs cells slots ∧ ∀ target, Steps p.tables e below ((T.setVm vm').setTop { g with pc := h, stack := [.ref x] }) target → Steps p.tables e below ((T.setTop g).pushFrame (.throwing x)) target := by
  subst hg
  have hA : At T g.method c below := X.here
  have hm : ((T.setTop g).pushFrame (.throwing x)).vm.method? g.method = some meth := by rw [Stand.throwing_vm, X.warmed.alike.method?]; exact X.method
  obtain ⟨vm', g1, g2⟩ := am_search (e := e) (f := g) (a := x) (s0 := s) hobj hk c.exceptionTable.toList ((T.setTop g).pushFrame (.throwing x)) (by rw [Stand.throwing_vm]; exact X.warmed) (by rw [Stand.throwing_heap]; exact hcell) hh
  have hF : ∀ (Q : Handler → Pre) (E : CtlPost) (d : Bool) (acts : List Action), wp (findHandler g x) Q E e d acts ((T.setTop g).pushFrame (.throwing x)) ↔ Q (.found h) d acts (((T.setTop g).pushFrame (.throwing x)).setVm vm') := fun Q E d acts => by rw [W.findHandler_eq hm X.code, g2]
  refine ⟨vm', X.noted g1, fun target hrest => ?_⟩
  obtain ⟨hgo, hw⟩ := hA.throwing x
  refine Steps.head hgo hw ?_
  have hstep : (stepThrowing e ((T.setTop g).pushFrame (.throwing x)) x (.java g :: T.frames.tail)).Is ((((T.setTop g).pushFrame (.throwing x)).setVm vm').setFrames (.java { g with pc := h, stack := [.ref x] } :: T.frames.tail)) [] := by
    simp only [stepThrowing, searchFrame, vmDo]
    generalize hr : Sem.go _ e false [] _ = res
    obtain ⟨as, rfl, ha⟩ := Sem.eq_ok_of hr (a := Handler.found h) (s' := ((T.setTop g).pushFrame (.throwing x)).setVm vm') (acts' := []) (by simp [hF _ _ _ _])
    exact ⟨rfl, ha⟩
  rw [stepThread_throwing (frames_entered hA.top _), hstep.1]
  obtain ⟨g₀, hg0⟩ := Option.isSome_iff_exists.mp hA.top
  obtain ⟨r, hr⟩ := State.topJava?_eq_some.mp hg0
  have hr' : (T.setVm vm').frames = .java g₀ :: r := hr
  rw [State.setTop_of_frames _ hr'] at hrest
  rw [hr, List.tail_cons]
  have e1 : (((T.setTop g).pushFrame (.throwing x)).setVm vm').setFrames (.java { g with pc := h, stack := [.ref x] } :: r) = (T.setVm vm').setFrames (.java { g with pc := h, stack := [.ref x] } :: r) := by
    rw [State.pushFrame, State.setTop_of_frames _ hr, State.setFrames_setFrames]
    show (((T.setVm vm').setFrames _).setFrames _) = _
    rw [State.setFrames_setFrames]
  rw [e1]
  exact hrest
