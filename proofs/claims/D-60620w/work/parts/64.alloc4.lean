/-! ALLOCATING, part 4: Object's constructor -/
section AMAL4
variable {p : Program} {l : Launch} {e : Env} {R : Room} {s : State} {m : MethodId} {args : Array Value} {below : List Frame} {meth : Method} {c : Code} {w : AW} {G G' : AG} {nL : Nat} {QQ : State → Prop} {cells slots : Nat}
variable {cc : ByteArray} {pc : Nat} {L : List (Nat × AV)} {S : List AV} {σ : AMem}
theorem am_objinit (hx : p.tables.exec = Jvm.exec) (hb : c.code = cc) (hml : c.maxLocals = nL) {own : String} {index : Nat} (hown : s.vm.findClass own = some m.cls) (hT : ∀ q ∈ am_tbl, q.before args s = true) (h1 : Cond.methodLink own index objectInit ∈ am_tbl) (h2 : Cond.instanceMethod objectInit ∈ am_tbl) (h3 : Cond.code objectInit ⟨#[0xb1]⟩ 1 none ∈ am_tbl) {o : Int} (ho : o ≠ 0) (hS : S = []) (hf : 1 ≤ R.frames) (hlo : 20 ≤ R.locals) (hd : decode cc pc = .ok (.invokespecial index, 3))
    (kk : am_M p l e R s m args below meth c QQ w G cells slots nL (pc + 3) L S σ) : am_M p l e R s m args below meth c QQ w G cells slots nL pc L ((2, o) :: S) σ := by
  intro H locs ls r1 r2 r3 r4 r5 r6 r7
  subst hS
  rw [List.map_cons, am_val2 _ ho]
  refine W.objInit hx hb hown (hT _ h1) (hT _ h2) (hT _ h3) rfl (by rw [hml]; exact r5.1) rfl hd hf (by show 2 * 0 + 0 + 12 ≤ _; omega) ?_
  exact W.eq (g2 := F0 m (pc + 3) ls []) rfl (kk H locs ls r1 r2 r3 r4 r5 r6 (fun v hv => absurd hv List.not_mem_nil))
end AMAL4
