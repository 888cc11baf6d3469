/-! THROWING, part 3: a virtual call that throws; blocks that throw -/
section AMY2
variable {p : Program} {l : Launch} {e : Env} {R : Room} {s : State} {m : MethodId} {args : Array Value} {below : List Frame} {meth : Method} {c : Code} {w : AW} {G : AG} {nL : Nat}
variable {cc : ByteArray} {pc : Nat} {L : List (Nat × AV)} {S : List AV} {σ : AMem} {E : Nat → AMem → Prop}
theorem am_callVX (hx : p.tables.exec = Jvm.exec) (hb : c.code = cc) (hml : c.maxLocals = nL) (hlk : meth.locks = false) (hne : c.exceptionTable.isEmpty = true) {own : String} {index : Nat} (hown : s.vm.findClass own = some m.cls) (hT : ∀ q ∈ am_tbl, q.before args s = true) (hK : am_K w s) (hS0 : am_St w s s.heap) (hw0 : w.1 ≤ s.heap.size)
    (ac : AX) (hS : am_SX l w G ac) (hst : ac.2.2.2.1 = false) (hlink : Cond.methodLink own index ac.2.1.1 ∈ am_tbl) {o : Int} {ci : Nat} {q : vw_C} (hq : cls9[ci]? = some q) (hqc : q.1 = ac.2.1.1.cls) (hG : G.1 o = 20 + ci) {xs : List Int} (hlen : (o :: xs).length = ac.2.2.1.length) (hR1 : ac.2.2.2.2.1.frames + 1 ≤ R.frames) (hR2 : 16 + (ac.2.1.2.2.1 + 11) + ac.2.2.2.2.1.locals ≤ R.locals) (hR3 : ac.2.2.2.2.1.cells ≤ R.cells) (hR4 : ac.2.2.2.2.1.slots ≤ R.slots)
    (h8 : (S.map fun v => if v.1 = 1 then 2 else 1).sum ≤ 16) (hd : decode cc pc = .ok (.invokevirtual index, 3)) (k : ac.2.2.2.2.2 (o :: xs) σ E) : am_M p l e R s m args below meth c (am_QQ w G E below args s) w G 0 0 nL pc L ((List.zip ac.2.2.1 (o :: xs)).reverse ++ S) σ := by
  intro H locs ls r1 r2 r3 r4 r5 r6 r7
  obtain ⟨⟨m1, m2, m3, m4⟩, hM⟩ := hS
  rw [if_neg (show ¬ (am_toC ac).2.2.2.2.1 = true by rw [show (am_toC ac).2.2.2.2.1 = ac.2.2.2.1 from rfl, hst]; decide)] at m4
  obtain ⟨m5, m6, tg, ci', q', etg, hq', hqc', hpar⟩ := m4
  have etg : ac.2.2.1 = 2 :: tg := etg
  have hM1 := hM (o :: xs) σ E k hlen
  have hpay := am_pay hT
  rw [etg] at hlen r7 hM1 ⊢
  simp only [List.length_cons] at hlen
  obtain ⟨ho1, -, hO⟩ := r1 o (by omega)
  obtain ⟨q2, hq2, hOB, -⟩ := hO (by omega)
  have e1 : G.1 o - 20 = ci := by omega
  rw [e1] at hq2 hOB
  obtain ⟨cellB, f1, f2, f3, -⟩ := hOB
  have hvals : (am_vals w.1 (2 :: tg) (o :: xs)) = .ref (am_adr w.1 o) :: am_vals w.1 tg xs := by
    show am_val w.1 (2, o) :: _ = _
    rw [am_val2 _ (by omega)]; rfl
  have hcls := (hK.1.1 ci q hq).2
  intro T hTT X
  have hcode : (Cond.code ac.2.1.1 ac.2.1.2.1 ac.2.1.2.2.1 ac.2.1.2.2.2).before args s = true := hT _ m1
  obtain ⟨mk, methM, hnamed, hmethM, hstM, habM⟩ := Cond.instanceMethod_spec (hT _ m5)
  obtain ⟨methM', cM, hmethM', -, -, -, -, -, -, hsigM⟩ := Cond.code_spec hnamed hcode
  cases hmethM.symm.trans hmethM'
  obtain ⟨c2, k2, m2', z1, z2, z3, z4, kP, hkP, hkPi⟩ := Cond.selects_spec (hT _ m6)
  have hfc : s.vm.findClass ac.2.1.1.cls = some cellB.cls := by rw [f2, ← hqc]; exact hcls.1
  cases hfc.symm.trans z1
  cases (State.methodFound?_of_named hnamed m3).symm.trans z2
  cases hnamed.symm.trans z3
  have hselP : selectMethod e.platform s.vm cellB.cls mk = .method mk := by rw [Launch.admits_selectMethod X.admits]; exact z4
  have hn : (am_vals w.1 tg xs).length = methM.sig.parameters.length := by
    have h2 := hpar
    have h3 : (am_vals w.1 tg xs).length = tg.length := by unfold am_vals; simp [List.length_zip]; omega
    rw [hsigM] at h2
    rw [h3]
    exact (Option.some.inj h2).symm
  have hstack : (F0 m pc ls (((List.zip (2 :: tg) (o :: xs)).reverse ++ S).map (am_val w.1))).stack = (am_vals w.1 tg xs).reverse ++ .ref (am_adr w.1 o) :: S.map (am_val w.1) := by
    show ((List.zip (2 :: tg) (o :: xs)).reverse ++ S).map (am_val w.1) = _
    rw [List.map_append, List.map_reverse]
    show (am_vals w.1 (2 :: tg) (o :: xs)).reverse ++ _ = _
    rw [hvals, List.reverse_cons, List.append_assoc]; rfl
  obtain ⟨vm₁, X₁, hstep₁⟩ := X.invokevirtual hx hown (hT _ hlink) hnamed hmethM hstM hkP hkPi m3 (a := am_adr w.1 o) (cell := cellB) (by rw [hTT]; exact f1)
    (fun z h => by rw [f3] at h; cases h) hselP hmethM habM hkP hkPi (g := F0 m pc ls (((List.zip (2 :: tg) (o :: xs)).reverse ++ S).map (am_val w.1))) rfl (argsL := am_vals w.1 tg xs) (rest := S.map (am_val w.1)) hn hstack (by rw [hb]; exact hd)
  have hp : ∀ q ∈ (Cond.code ac.2.1.1 ac.2.1.2.1 ac.2.1.2.2.1 ac.2.1.2.2.2 :: am_tbl), ∀ (a' : Array Value) (U : State), s.WarmedH U.vm → q.before a' U = true := fun q hq => by
    rcases List.mem_cons.mp hq with rfl | hq
    · exact hpay _ m1
    · exact hpay q hq
  have hbk := am_backT (g := F0 m pc ls (S.map (am_val w.1))) (a := (Value.ref (am_adr w.1 o) :: am_vals w.1 tg xs).toArray) hM1 X₁ rfl (by rw [hml]; exact r5.1) (by rw [hb]; exact hd) (am_room16 (by rw [am_catS]; exact h8)) (X₁.named hnamed) hR1 hR2 (atoms_intro (fun q hq => hp q hq _ _ X₁.warmed)) (hp _ List.mem_cons_self _ _ X₁.warmed) (hpay _ m2 _ _ X₁.warmed) (by omega) (by omega) (fun mk' => ⟨by rw [hvals], am_zipOK r7, by
      show am_rep w G σ T.heap
      rw [hTT]; exact r1, am_K.vm (u := T.setVm vm₁) rfl (hK.moved X₁.warmed), hS0.to (U := (T.setVm vm₁).calling (F0 m pc ls (S.map (am_val w.1))) mk' (Value.ref (am_adr w.1 o) :: am_vals w.1 tg xs).toArray) (H1 := T.heap) X₁.warmed (fun q hq => by rw [hTT]; exact r4 q hq), by
      show w.1 ≤ T.heap.size
      rw [hTT]; exact Nat.le_trans hw0 r3⟩)
  exact am_outX hlk (T := T.setVm vm₁) hTT X₁ (g := F0 m pc ls (S.map (am_val w.1))) rfl rfl rfl (fun x hx => by
      rw [Array.isEmpty_iff] at hne
      rw [hne] at hx
      simp at hx) r2 r3 r4 hbk hstep₁
end AMY2
/-- a call that throws, in a block -/
def am_callX : List AX → Nat → (List Int → Prop → Prop) → List AV → AMem → (Nat → AMem → Prop) → Prop
  | [], _, _, _, _, _ => False
  | a :: r, k, g, S, σ, E => if a.1 = k then am_pop a.2.2.1.reverse S [] (fun xs S' => if am_sz S' ≤ 16 then g xs (a.2.2.2.2.2 xs σ E) else False) else am_callX r k g S σ E
def am_inX : List AX → Nat → Bool
  | [], _ => false
  | a :: r, k => if a.1 = k then true else am_inX r k
def am_stepX (G : AG) (cal : List AC) (calX : List AX) (E : Nat → AMem → Prop) (nx : List (Nat × AV) → List AV → AMem → Prop) (jp : Int → List (Nat × AV) → List AV → AMem → Prop) (i : Instr) (r1 r2 : Nat) (r3 : List Nat) (L : List (Nat × AV)) (S : List AV) (σ : AMem) : Prop := match i with
  | .invokestatic _ => if am_inX calX r1 = true then (am_step G cal (fun _ _ => False) nx jp i r1 r2 r3 L S σ ∨ am_callX calX r1 (fun _ P => P) S σ E) else am_step G cal (fun _ _ => False) nx jp i r1 r2 r3 L S σ
  | .invokevirtual _ => if am_inX calX r1 = true then (am_step G cal (fun _ _ => False) nx jp i r1 r2 r3 L S σ ∨ am_callX calX r1 (am_recv G (20 + r2)) S σ E) else am_step G cal (fun _ _ => False) nx jp i r1 r2 r3 L S σ
  | i => am_step G cal (fun _ _ => False) nx jp i r1 r2 r3 L S σ
def am_blkX (G : AG) (cal : List AC) (calX : List AX) (full : List aE) (tm : List aT) (X : Nat → List Int → AMem → Prop) (E : Nat → AMem → Prop) : Nat → Bool → Nat → List aE → List (Nat × AV) → List AV → AMem → Prop
  | 0, _, _, _, _, _, _ => False
  | f + 1, fs, pc, cs, L, S, σ => match cs with
    | [] => False
    | (pc', lab, i, n, r1, r2, r3) :: cs' => if pc' = pc then
        (if lab = 0 ∨ fs = true then
          (match i with
          | .lcmp => (match cs' with
            | (pc2, lab2, .ifCond c off, _, _) :: cs2 => if pc2 = pc + 1 ∧ lab2 = 0 then am_p1 1 S (fun y S => am_p1 1 S (fun x S => am_br c x y (am_blkX G cal calX full tm X E f false (((pc + 1 : Nat) : Int) + off).toNat (am_drop (((pc + 1 : Nat) : Int) + off).toNat full) L S σ) (am_blkX G cal calX full tm X E f false (pc + 1 + 3) cs2 L S σ))) else False
            | _ => False)
          | i => am_stepX G cal calX E (fun L S σ => am_blkX G cal calX full tm X E f false (pc + n) cs' L S σ) (fun off L S σ => am_blkX G cal calX full tm X E f false ((pc : Int) + off).toNat (am_drop ((pc : Int) + off).toNat full) L S σ) i r1 r2 r3 L S σ)
        else match tm[lab - 1]? with
          | none => False
          | some t => am_arr2 t L S (fun vs => X (lab - 1) vs σ)) else False
def am_atX (G : AG) (cal : List AC) (calX : List AX) (full : List aE) (tm : List aT) (X : Nat → List Int → AMem → Prop) (E : Nat → AMem → Prop) (fuel j : Nat) (v : List Int) (σ : AMem) : Prop := match tm[j]? with
  | none => False
  | some t => am_mk t v (fun L S => am_blkX G cal calX full tm X E fuel true t.1 (am_drop t.1 full) L S σ)
def am_TX (B : (Nat → List Int → AMem → Prop) → (Nat → AMem → Prop) → Nat → List Int → AMem → Prop) : List Int → AMem → (Nat → AMem → Prop) → Prop := fun xs σ E => ∀ X : Nat → List Int → AMem → Prop, (∀ j v σ', B X E j v σ' → X j v σ') → X 0 xs σ
def am_chkX (own : String) (calX : List AX) (e : aE) : Bool := match e.2.2.1 with
  | .invokestatic idx => calX.all (fun a => decide (a.1 ≠ e.2.2.2.2.1) || (a.2.2.2.1 && decide (am_wd (e.2.2.2.2.2.2.headD 0) = some (.methodLink own idx a.2.1.1))))
  | .invokevirtual idx => match cls9[e.2.2.2.2.2.1]? with
    | none => false
    | some q => calX.all (fun a => decide (a.1 ≠ e.2.2.2.2.1) || (!a.2.2.2.1 && decide (q.1 = a.2.1.1.cls) && decide (am_wd (e.2.2.2.2.2.2.headD 0) = some (.methodLink own idx a.2.1.1))))
  | _ => true
def am_chkRX (rm : Room) (calX : List AX) : Bool := calX.all (fun a => decide (a.2.2.2.2.1.cells ≤ rm.cells ∧ a.2.2.2.2.1.slots ≤ rm.slots ∧ a.2.2.2.2.1.frames + 1 ≤ rm.frames ∧ 16 + (a.2.1.2.2.1 + 11) + a.2.2.2.2.1.locals ≤ rm.locals))
theorem am_callX_of : ∀ {cal : List AX} {k : Nat} {g : List Int → Prop → Prop} {S : List AV} {σ : AMem} {E : Nat → AMem → Prop}, am_callX cal k g S σ E → ∃ a ∈ cal, a.1 = k ∧ ∃ xs S', xs.length = a.2.2.1.length ∧ S = (List.zip a.2.2.1 xs).reverse ++ S' ∧ am_sz S' ≤ 16 ∧ g xs (a.2.2.2.2.2 xs σ E)
  | [], k, g, S, σ, E, h => h.elim
  | a :: r, k, g, S, σ, E, h => by
    unfold am_callX at h
    by_cases e : a.1 = k
    · rw [if_pos e] at h
      obtain ⟨ys, S', h1, h2, h3⟩ := am_pop_of h
      obtain ⟨h4, h5⟩ := am_if_of h3
      rw [List.length_reverse] at h1
      rw [List.append_nil] at h5
      refine ⟨a, List.mem_cons_self, e, ys.reverse, S', by simp [h1], ?_, h4, h5⟩
      rw [h2]
      congr 1
      have := am_zip_rev (ts := a.2.2.1.reverse) (ys := ys) (by simp [h1])
      rw [List.reverse_reverse] at this
      exact this.symm
    · rw [if_neg e] at h
      obtain ⟨a', ha', rest⟩ := am_callX_of h
      exact ⟨a', List.mem_cons_of_mem _ ha', rest⟩
