/-! THROWING, part 2: methods as callers see them when they throw; a call that throws through the caller -/
abbrev AX : Type := Nat × (MethodName × ByteArray × Nat × Option FieldType) × List Nat × Bool × Room × (List Int → AMem → (Nat → AMem → Prop) → Prop)
def am_toC (a : AX) : AC := (a.1, a.2.1, a.2.2.1, 0, a.2.2.2.1, a.2.2.2.2.1, fun _ _ _ => False)
def am_PcX (w : AW) (G : AG) (tags : List Nat) (xs : List Int) (σ : AMem) : Array Value → State → Prop := va_Pc (am_vals w.1 tags xs) (fun U => (∀ v ∈ List.zip tags xs, am_ok v) ∧ am_rep w G σ U.heap ∧ am_K w U ∧ am_St w U U.heap ∧ w.1 ≤ U.heap.size)
def am_SX (l : Launch) (w : AW) (G : AG) (a : AX) : Prop := am_MSp (am_toC a) ∧ ∀ (xs : List Int) (σ : AMem) (E : Nat → AMem → Prop), a.2.2.2.2.2 xs σ E → xs.length = a.2.2.1.length → am_MT l a.2.1.1 (Cond.code a.2.1.1 a.2.1.2.1 a.2.1.2.2.1 a.2.1.2.2.2 :: am_tbl) a.2.2.2.2.1 (am_PcX w G a.2.2.1 xs σ) (am_Qt w G E)
theorem am_K.vm {w : AW} {u U : State} (e : u.vm = U.vm) (h : am_K w u) : am_K w U := by
  refine ⟨va_K.moved (u := u) (U := U) (by rw [e]; exact Vm.Alike.refl _) h.1, fun z hz => ?_⟩
  have h1 := h.2 z hz
  have h2 := (List.mem_filter.mp hz).2
  unfold am_isN at h2
  split at h2
  · exact va_tabs (A := #[]) (u := u) rfl e h1
  · exact va_tabs (A := #[]) (u := u) rfl e h1
  · cases h2
/-- the end of a walk that throws -/
def am_QQ (w : AW) (G : AG) (E : Nat → AMem → Prop) (below : List Frame) (args : Array Value) (s : State) : State → Prop := fun t => ∃ o, t.status = .running ∧ Ended t below o ∧ am_Qt w G E args s o t
section AMY
variable {p : Program} {l : Launch} {e : Env} {R : Room} {s : State} {m : MethodId} {args : Array Value} {below : List Frame} {meth : Method} {c : Code} {w : AW} {G : AG} {nL : Nat}
variable {cc : ByteArray} {pc : Nat} {L : List (Nat × AV)} {S : List AV} {σ : AMem} {E : Nat → AMem → Prop}
/-- behind a callee that threw, in a method that catches nothing there -/
theorem am_outX {H : Heap} {locs : List Loc} {T T1 : State} {g : JFrame} {mk : MethodId} {a : Array Value} (hlk : meth.locks = false) (hT : T.heap = H) (X : Stand p l e R s m args below meth c T locs 0 0) (hg : g.method = m) (hlocked : g.locked = none) (hentered : g.entered = []) (hout : ∀ x ∈ c.exceptionTable.toList, covers x g.pc = false)
    (r2 : ∀ q ∈ locs, w.1 ≤ q.base) (r3 : s.heap.size ≤ H.size) (r4 : ∀ q, q < w.1 → H[q]? = s.heap[q]?)
    (hb : ∃ (x : Addr) (k : Nat) (σ' : AMem) (cell : Cell) (T' : State) (L : List Loc), Stand p l e R s m args below meth c T' (locs ++ L) (0 + 1) (0 + 6) ∧ (∀ q ∈ L, w.1 ≤ q.base) ∧ am_rep w G σ' T'.heap ∧ am_K w T' ∧ E k σ' ∧ T.heap.size ≤ x ∧ T'.heap[x]? = some cell ∧ cell.vm = .none ∧ T.vm.findClass (am_exN k) = some cell.cls ∧ T.heap.size ≤ T'.heap.size ∧ (∀ q, q < w.1 → T'.heap[q]? = T.heap[q]?) ∧ T.WarmedH T'.vm ∧
      Steps p.tables e below (doInvoke e (T.setTop g) [] mk a).1 ((T'.setTop g).pushFrame (.throwing x)))
    (hgo : ∀ target, (∀ acts, Steps p.tables e below (doInvoke e (T.setTop g) acts mk a).1 target) → Steps p.tables e below T1 target) : ∃ t, Steps p.tables e below T1 t ∧ am_QQ w G E below args s t := by
  obtain ⟨x, k, σ', cell, T', Lc, X', hL, q1, q2, q3, q4, q5, q6, q7, q8, q9, q10, hst⟩ := hb
  obtain ⟨s1, s2, s3, s4, s5⟩ := X'.leaveThrown x (g := g) hg hlocked hentered hout hlk
  refine ⟨T'.setFrames (.throwing x :: below), hgo _ (fun acts => ?_), .threw x, s2, s3, x, k, σ', cell, rfl, q1, ?_, q3, ?_, q5, q6, ?_, ?_, ?_, s4, locs ++ Lc, s5, ?_⟩
  · rw [doInvoke_state]; exact hst.trans s1
  · exact am_K.vm (u := T') rfl q2
  · rw [hT] at q4; exact Nat.le_trans r3 q4
  · rw [X.warmed.alike.findClass] at q7; exact q7
  · rw [hT] at q8; exact Nat.le_trans r3 q8
  · intro q hq
    have h1 := q9 q hq
    rw [hT, r4 q hq] at h1
    exact h1
  · intro q hq
    rcases List.mem_append.mp hq with h | h
    · exact r2 q h
    · exact hL q h
theorem am_callSX (hx : p.tables.exec = Jvm.exec) (hb : c.code = cc) (hml : c.maxLocals = nL) (hlk : meth.locks = false) (hne : c.exceptionTable.isEmpty = true) {own : String} {index : Nat} (hown : s.vm.findClass own = some m.cls) (hT : ∀ q ∈ am_tbl, q.before args s = true) (hK : am_K w s) (hS0 : am_St w s s.heap) (hw0 : w.1 ≤ s.heap.size)
    (ac : AX) (hS : am_SX l w G ac) (hst : ac.2.2.2.1 = true) (hlink : Cond.methodLink own index ac.2.1.1 ∈ am_tbl) {xs : List Int} (hlen : xs.length = ac.2.2.1.length) (hR1 : ac.2.2.2.2.1.frames + 1 ≤ R.frames) (hR2 : 16 + (ac.2.1.2.2.1 + 11) + ac.2.2.2.2.1.locals ≤ R.locals) (hR3 : ac.2.2.2.2.1.cells ≤ R.cells) (hR4 : ac.2.2.2.2.1.slots ≤ R.slots)
    (h8 : (S.map fun v => if v.1 = 1 then 2 else 1).sum ≤ 16) (hd : decode cc pc = .ok (.invokestatic index, 3)) (k : ac.2.2.2.2.2 xs σ E) : am_M p l e R s m args below meth c (am_QQ w G E below args s) w G 0 0 nL pc L ((List.zip ac.2.2.1 xs).reverse ++ S) σ := by
  intro H locs ls r1 r2 r3 r4 r5 r6 r7
  obtain ⟨⟨m1, m2, m3, m4⟩, hM⟩ := hS
  rw [if_pos (show (am_toC ac).2.2.2.2.1 = true from hst)] at m4
  have hM1 := hM xs σ E k hlen
  have hpay := am_pay hT
  intro T hTT X
  have hcode : (Cond.code ac.2.1.1 ac.2.1.2.1 ac.2.1.2.2.1 ac.2.1.2.2.2).before args s = true := hT _ m1
  obtain ⟨mk, hnamed⟩ := Cond.code_named hcode
  obtain ⟨methM, cM, hmethM, -, -, -, -, -, -, hsigM⟩ := Cond.code_spec hnamed hcode
  have hstatic : methM.isStatic = true := Cond.static_spec hnamed hmethM (hT _ m4.1)
  obtain ⟨kP, hkP, -⟩ := className_of_methodNamed hnamed
  have hinitP : kP.init = .initialized := Cond.initialized_spec (findClass_of_methodNamed hnamed) hkP (hT _ m2)
  have hn : (am_vals w.1 ac.2.2.1 xs).length = methM.sig.parameters.length := by
    have h2 : (parseMethodDescriptor ac.2.1.1.desc).map (fun d => d.parameters.length) = some ac.2.2.1.length := m4.2
    have h3 : (am_vals w.1 ac.2.2.1 xs).length = ac.2.2.1.length := by unfold am_vals; simp [List.length_zip, hlen]
    rw [hsigM] at h2
    rw [h3]
    exact (Option.some.inj h2).symm
  have hstack : (F0 m pc ls (((List.zip ac.2.2.1 xs).reverse ++ S).map (am_val w.1))).stack = (am_vals w.1 ac.2.2.1 xs).reverse ++ S.map (am_val w.1) := by
    show ((List.zip ac.2.2.1 xs).reverse ++ S).map (am_val w.1) = _
    rw [List.map_append, List.map_reverse]; rfl
  obtain ⟨vm₁, X₁, hstep₁⟩ := X.invokestatic hx hown (hT _ hlink) hnamed hmethM hstatic hkP hinitP m3 (g := F0 m pc ls (((List.zip ac.2.2.1 xs).reverse ++ S).map (am_val w.1))) rfl (argsL := am_vals w.1 ac.2.2.1 xs) (rest := S.map (am_val w.1)) hn hstack (by rw [hb]; exact hd)
  have hp : ∀ q ∈ (Cond.code ac.2.1.1 ac.2.1.2.1 ac.2.1.2.2.1 ac.2.1.2.2.2 :: am_tbl), ∀ (a' : Array Value) (U : State), s.WarmedH U.vm → q.before a' U = true := fun q hq => by
    rcases List.mem_cons.mp hq with rfl | hq
    · exact hpay _ m1
    · exact hpay q hq
  have hbk := am_backT (g := F0 m pc ls (S.map (am_val w.1))) (a := (am_vals w.1 ac.2.2.1 xs).toArray) hM1 X₁ rfl (by rw [hml]; exact r5.1) (by rw [hb]; exact hd) (am_room16 (by rw [am_catS]; exact h8)) (X₁.named hnamed) hR1 hR2 (atoms_intro (fun q hq => hp q hq _ _ X₁.warmed)) (hp _ List.mem_cons_self _ _ X₁.warmed) (hpay _ m2 _ _ X₁.warmed) (by omega) (by omega) (fun mk' => ⟨rfl, am_zipOK r7, by
      show am_rep w G σ T.heap
      rw [hTT]; exact r1, am_K.vm (u := T.setVm vm₁) rfl (hK.moved X₁.warmed), hS0.to (U := (T.setVm vm₁).calling (F0 m pc ls (S.map (am_val w.1))) mk' (am_vals w.1 ac.2.2.1 xs).toArray) (H1 := T.heap) X₁.warmed (fun q hq => by rw [hTT]; exact r4 q hq), by
      show w.1 ≤ T.heap.size
      rw [hTT]; exact Nat.le_trans hw0 r3⟩)
  exact am_outX hlk (T := T.setVm vm₁) hTT X₁ (g := F0 m pc ls (S.map (am_val w.1))) rfl rfl rfl (fun x hx => by
      rw [Array.isEmpty_iff] at hne
      rw [hne] at hx
      simp at hx) r2 r3 r4 hbk hstep₁
end AMY
