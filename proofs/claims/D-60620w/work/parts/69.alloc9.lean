/-! ALLOCATING, part 9: a constructor of the nest -/
section AMAL9
variable {p : Program} {l : Launch} {e : Env} {R : Room} {s : State} {m : MethodId} {args : Array Value} {below : List Frame} {meth : Method} {c : Code} {w : AW} {nL : Nat} {QQ : State → Prop} {cells slots : Nat}
variable {cc : ByteArray} {pc : Nat} {L : List (Nat × AV)} {S : List AV} {σ : AMem}
theorem am_callIN (hx : p.tables.exec = Jvm.exec) (hb : c.code = cc) (hml : c.maxLocals = nL) {own : String} {index : Nat} (hown : s.vm.findClass own = some m.cls) (hT : ∀ q ∈ am_tbl, q.before args s = true) (hK : am_K w s) (hA : am_Ao s) {M0 : Nat} (hs : s.heap.size = w.1 + M0) (hp : cells = 0 ∨ (GC ((M0 + cells : Nat) : Int)).1 ((M0 + cells : Nat) : Int) ≠ 0)
    (ac : AI) (hS : am_SI l w ac) (hnm : ac.2.1.1.name = "<init>") {host : String} (hlink : Cond.methodLinkNest own index ac.2.1.1 host ∈ am_nw) {o : Int} (ho : o ≠ 0) {tg : List Nat} (etg : ac.2.2.1 = 2 :: tg) (hpar : (parseMethodDescriptor ac.2.1.1.desc).map (fun d => d.parameters.length) = some tg.length) (hcls : ac.2.1.1.cls ≠ "java/lang/invoke/MethodHandle" ∧ ac.2.1.1.cls ≠ "java/lang/invoke/VarHandle")
    {xs : List Int} (hlen : xs.length = tg.length) (hrc : ac.2.2.2.2.1.cells = ac.2.2.2.1.1) (hrs : ac.2.2.2.2.1.slots = ac.2.2.2.1.2) (hR1 : ac.2.2.2.2.1.frames + 1 ≤ R.frames) (hR2 : 8 + (ac.2.1.2.2 + 11) + ac.2.2.2.2.1.locals ≤ R.locals) (hc1 : cells + ac.2.2.2.1.1 ≤ R.cells) (hc2 : slots + ac.2.2.2.1.2 ≤ R.slots)
    (h8 : (S.map fun v => if v.1 = 1 then 2 else 1).sum ≤ 8) (hd : decode cc pc = .ok (.invokespecial index, 3)) {Q : AMem → Prop} (k : ac.2.2.2.2.2 (M0 + cells) (o :: xs) σ Q)
    (kk : ∀ σ' : AMem, Q σ' → am_M p l e R s m args below meth c QQ w (GC ((M0 + cells + ac.2.2.2.1.1 : Nat) : Int)) (cells + ac.2.2.2.1.1) (slots + ac.2.2.2.1.2) nL (pc + 3) L S σ') :
    am_M p l e R s m args below meth c QQ w (GC ((M0 + cells : Nat) : Int)) cells slots nL pc L ((List.zip (2 :: tg) (o :: xs)).reverse ++ S) σ := by
  intro H locs ls r1 r2 r3 r4 r5 r6 r7 T hTT X
  have hsz := am_hsize hs r1 r3 hTT X hp
  obtain ⟨⟨m1, m2, m3⟩, hM⟩ := hS
  have hM1 := hM (M0 + cells) (o :: xs) σ Q k (by rw [etg]; simp [hlen])
  rw [etg] at hM1
  have hpay := am_pay hT
  have hvals : (am_vals w.1 (2 :: tg) (o :: xs)) = .ref (am_adr w.1 o) :: am_vals w.1 tg xs := by
    show am_val w.1 (2, o) :: _ = _
    rw [am_val2 _ ho]; rfl
  have hpp : ∀ q ∈ (Cond.code ac.2.1.1 ac.2.1.2.1 ac.2.1.2.2 none :: am_tbl), ∀ (a' : Array Value) (U : State), s.WarmedH U.vm → q.before a' U = true := fun q hq => by
    rcases List.mem_cons.mp hq with rfl | hq
    · exact hpay _ m1
    · exact hpay q hq
  have hW : W p l e R s m args below meth c H locs cells slots QQ (F0 m pc ls (((List.zip (2 :: tg) (o :: xs)).reverse ++ S).map (am_val w.1))) := by
    refine am_ofRunI (a := (Value.ref (am_adr w.1 o) :: am_vals w.1 tg xs).toArray) (va_runIN (host := host) (b := am_adr w.1 o) (As := am_vals w.1 tg xs) (n := tg.length) (nL := nL) (Ts := am_tbl) ⟨hx, hb, hml, hown, hT⟩ hM1 ⟨⟨⟨hrc, hrs, hR1, hR2, hpp, List.mem_cons_self⟩, hT _ m1, hT _ m2, hcls, fun sig h => ?_, va_Nw.use rfl (hK.2 _ hlink)⟩, hnm, hT _ m3⟩ ⟨am_blindI _ _ _ _ _, fun U hU hWm => ⟨by rw [hvals], am_zipOK r7, by rw [hU]; exact r1, hK.moved hWm, by rw [hU]; exact hsz, hA.moved hWm.alike⟩⟩ rfl ?_ r5.1 ?_ ?_ hd ⟨hc1, hc2⟩) r2 r3 r4 r5 r6 (fun v hv => r7 v (List.mem_append_right _ hv)) kk
    · rw [h] at hpar
      exact (Option.some.inj hpar).symm
    · unfold am_vals; simp [List.length_zip, hlen]
    · show ((List.zip (2 :: tg) (o :: xs)).reverse ++ S).map (am_val w.1) = _
      rw [List.map_append, List.map_reverse]
      show (am_vals w.1 (2 :: tg) (o :: xs)).reverse ++ _ = _
      rw [hvals, List.reverse_cons, List.append_assoc]; rfl
    · show 2 * 0 + _ ≤ 8
      rw [am_catS]; omega
  exact hW T hTT X
end AMAL9
