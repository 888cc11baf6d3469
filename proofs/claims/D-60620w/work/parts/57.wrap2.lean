/-! CATCHING, part 2: a call in a try -/
section AMK
variable {p : Program} {l : Launch} {e : Env} {R : Room} {s : State} {m : MethodId} {args : Array Value} {below : List Frame} {meth : Method} {c : Code} {w : AW} {G : AG} {nL : Nat} {QQ : State → Prop}
variable {cc : ByteArray} {pc : Nat} {L : List (Nat × AV)} {S : List AV} {σ : AMem}
theorem am_callVC (hx : p.tables.exec = Jvm.exec) (hb : c.code = cc) (hml : c.maxLocals = nL) {own : String} {index : Nat} (hown : s.vm.findClass own = some m.cls) (hT : ∀ q ∈ am_tbl, q.before args s = true) (hK : am_K w s) (hS0 : am_St w s s.heap) (hw0 : w.1 ≤ s.heap.size)
    (ac : AX) (hS : am_SX l w G ac) (hst : ac.2.2.2.1 = false) (hlink : Cond.methodLink own index ac.2.1.1 ∈ am_tbl) {o : Int} {ci : Nat} {q : vw_C} (hq : cls9[ci]? = some q) (hqc : q.1 = ac.2.1.1.cls) (hG : G.1 o = 20 + ci) {xs : List Int} (hlen : (o :: xs).length = ac.2.2.1.length) (hR1 : ac.2.2.2.2.1.frames + 1 ≤ R.frames) (hR2 : 16 + (ac.2.1.2.2.1 + 11) + ac.2.2.2.2.1.locals ≤ R.locals) (hR3 : ac.2.2.2.2.1.cells ≤ R.cells) (hR4 : ac.2.2.2.2.1.slots ≤ R.slots)
    (h8 : (S.map fun v => if v.1 = 1 then 2 else 1).sum ≤ 16) (hd : decode cc pc = .ok (.invokevirtual index, 3)) (hp : Nat → Option Nat) (hhnd : ∀ k tc h, s.vm.findClass (am_exN k) = some tc → hp k = some h → am_hnd e s m.cls pc tc c.exceptionTable.toList h ∧ ∃ kk, s.vm.classes[tc]? = some kk)
    {E : Nat → AMem → Prop} (k : ac.2.2.2.2.2 (o :: xs) σ E) (hE : ∀ k σ', E k σ' → ∃ h, hp k = some h ∧ ∀ a' : Int, 1 ≤ a' → am_M p l e R s m args below meth c QQ w G 1 6 nL h L [(2, a')] σ') : am_M p l e R s m args below meth c QQ w G 0 0 nL pc L ((List.zip ac.2.2.1 (o :: xs)).reverse ++ S) σ := by
  intro H locs ls r1 r2 r3 r4 r5 r6 r7
  obtain ⟨⟨m1, m2, m3, m4⟩, hM⟩ := hS
  rw [if_neg (show ¬ (am_toC ac).2.2.2.2.1 = true by rw [show (am_toC ac).2.2.2.2.1 = ac.2.2.2.1 from rfl, hst]; decide)] at m4
  obtain ⟨m5, m6, tg, ci', q', etg, hq', hqc', hpar⟩ := m4
  have etg : ac.2.2.1 = 2 :: tg := etg
  have hM1 := hM (o :: xs) σ _ k hlen
  have hpay := am_pay hT
  rw [etg] at hlen r7 hM1 ⊢
  simp only [List.length_cons] at hlen
  obtain ⟨ho1, -, hO⟩ := r1 o (by omega)
  obtain ⟨q2, hq2, hOB, -⟩ := hO (by omega)
  have e1 : G.1 o - 20 = ci := by omega
  rw [e1] at hq2 hOB
  obtain ⟨cellB, f1, f2, f3, -⟩ := hOB
  have hvals : (am_vals w.1 (2 :: tg) (o :: xs)) = .ref (am_adr w.1 o) :: am_vals w.1 tg xs := by
    show am_val w.1 (2, o) :: _ = _
    rw [am_val2 _ (by omega)]; rfl
  have hcls := (hK.1.1 ci q hq).2
  intro T hTT X
  have hcode : (Cond.code ac.2.1.1 ac.2.1.2.1 ac.2.1.2.2.1 ac.2.1.2.2.2).before args s = true := hT _ m1
  obtain ⟨mk, methM, hnamed, hmethM, hstM, habM⟩ := Cond.instanceMethod_spec (hT _ m5)
  obtain ⟨methM', cM, hmethM', -, -, -, -, -, -, hsigM⟩ := Cond.code_spec hnamed hcode
  cases hmethM.symm.trans hmethM'
  obtain ⟨c2, k2, m2', z1, z2, z3, z4, kP, hkP, hkPi⟩ := Cond.selects_spec (hT _ m6)
  have hfc : s.vm.findClass ac.2.1.1.cls = some cellB.cls := by rw [f2, ← hqc]; exact hcls.1
  cases hfc.symm.trans z1
  cases (State.methodFound?_of_named hnamed m3).symm.trans z2
  cases hnamed.symm.trans z3
  have hselP : selectMethod e.platform s.vm cellB.cls mk = .method mk := by rw [Launch.admits_selectMethod X.admits]; exact z4
  have hn : (am_vals w.1 tg xs).length = methM.sig.parameters.length := by
    have h2 := hpar
    have h3 : (am_vals w.1 tg xs).length = tg.length := by unfold am_vals; simp [List.length_zip]; omega
    rw [hsigM] at h2
    rw [h3]
    exact (Option.some.inj h2).symm
  have hstack : (F0 m pc ls (((List.zip (2 :: tg) (o :: xs)).reverse ++ S).map (am_val w.1))).stack = (am_vals w.1 tg xs).reverse ++ .ref (am_adr w.1 o) :: S.map (am_val w.1) := by
    show ((List.zip (2 :: tg) (o :: xs)).reverse ++ S).map (am_val w.1) = _
    rw [List.map_append, List.map_reverse]
    show (am_vals w.1 (2 :: tg) (o :: xs)).reverse ++ _ = _
    rw [hvals, List.reverse_cons, List.append_assoc]; rfl
  obtain ⟨vm₁, X₁, hstep₁⟩ := X.invokevirtual hx hown (hT _ hlink) hnamed hmethM hstM hkP hkPi m3 (a := am_adr w.1 o) (cell := cellB) (by rw [hTT]; exact f1)
    (fun z h => by rw [f3] at h; cases h) hselP hmethM habM hkP hkPi (g := F0 m pc ls (((List.zip (2 :: tg) (o :: xs)).reverse ++ S).map (am_val w.1))) rfl (argsL := am_vals w.1 tg xs) (rest := S.map (am_val w.1)) hn hstack (by rw [hb]; exact hd)
  have hpp : ∀ q ∈ (Cond.code ac.2.1.1 ac.2.1.2.1 ac.2.1.2.2.1 ac.2.1.2.2.2 :: am_tbl), ∀ (a' : Array Value) (U : State), s.WarmedH U.vm → q.before a' U = true := fun q hq => by
    rcases List.mem_cons.mp hq with rfl | hq
    · exact hpay _ m1
    · exact hpay q hq
  have hbk := am_backT (g := F0 m pc ls (S.map (am_val w.1))) (a := (Value.ref (am_adr w.1 o) :: am_vals w.1 tg xs).toArray) hM1 X₁ rfl (by rw [hml]; exact r5.1) (by rw [hb]; exact hd) (am_room16 (by rw [am_catS]; exact h8)) (X₁.named hnamed) hR1 hR2 (atoms_intro (fun q hq => hpp q hq _ _ X₁.warmed)) (hpp _ List.mem_cons_self _ _ X₁.warmed) (hpay _ m2 _ _ X₁.warmed) (by omega) (by omega) (fun mk' => ⟨by rw [hvals], am_zipOK r7, by
      show am_rep w G σ T.heap
      rw [hTT]; exact r1, am_K.vm (u := T.setVm vm₁) rfl (hK.moved X₁.warmed), hS0.to (U := (T.setVm vm₁).calling (F0 m pc ls (S.map (am_val w.1))) mk' (Value.ref (am_adr w.1 o) :: am_vals w.1 tg xs).toArray) (H1 := T.heap) X₁.warmed (fun q hq => by rw [hTT]; exact r4 q hq), by
      show w.1 ≤ T.heap.size
      rw [hTT]; exact Nat.le_trans hw0 r3⟩)
  obtain ⟨x, k, σ', cell, T', Lc, X', hL, q1, q2, q3, q4, q5, q6, q7, q8, q9, q10, hst⟩ := hbk
  obtain ⟨h, hh, kk⟩ := hE _ _ q3
  have q7' : s.vm.findClass (am_exN k) = some cell.cls := by rw [X₁.warmed.alike.findClass] at q7; exact q7
  obtain ⟨hh1, hh2⟩ := hhnd k cell.cls h q7' hh
  obtain ⟨vm', X2, hgo2⟩ := am_caught X' x (g := F0 m pc ls (S.map (am_val w.1))) rfl q5 (by rw [q6]; intro z hz; cases hz) hh2 hh1
  have q4' : w.1 ≤ x := Nat.le_trans (Nat.le_trans hw0 r3) (by
    have : (T.setVm vm₁).heap.size = H.size := by show T.heap.size = _; rw [hTT]
    rw [← this]; exact q4)
  have hval : am_val w.1 (2, (x : Int) - w.1 + 1) = .ref x := by
    have e8 : @Eq Nat (am_adr w.1 ((x : Int) - w.1 + 1)) x := by
      show @Eq Nat (w.1 + (((x : Int) - w.1 + 1) - 1).toNat) x
      omega
    rw [am_val2 _ (by omega), e8]
  obtain ⟨t, st, fin⟩ := kk ((x : Int) - w.1 + 1) (by omega) T'.heap (locs ++ Lc) ls q1 (fun q hq => by
      rcases List.mem_append.mp hq with h | h
      · exact r2 q h
      · exact hL q h) (Nat.le_trans r3 (by
        have : (T.setVm vm₁).heap.size = H.size := by show T.heap.size = _; rw [hTT]
        rw [← this]; exact q8)) (fun q hq => by
      have h1 := q9 q hq
      have h2 : (T.setVm vm₁).heap[q]? = H[q]? := by show T.heap[q]? = _; rw [hTT]
      rw [h1, h2]; exact r4 q hq) r5 r6 (fun v hv => by
      rcases List.mem_singleton.mp hv with rfl
      show 0 ≤ _
      omega) (T'.setVm vm') rfl X2
  refine ⟨t, hstep₁ t (fun acts => ?_), fin⟩
  rw [doInvoke_state]
  refine hst.trans (hgo2 t ?_)
  have e9 : [(2, (x : Int) - w.1 + 1)].map (am_val w.1) = [Value.ref x] := by
    show [am_val w.1 (2, (x : Int) - w.1 + 1)] = _
    rw [hval]
  rw [e9] at st
  exact st
end AMK
