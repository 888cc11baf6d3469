/-! ALLOCATING, part 10: the return of a constructor -/
section AMAL10
variable {p : Program} {l : Launch} {e : Env} {R : Room} {s : State} {m : MethodId} {args : Array Value} {below : List Frame} {meth : Method} {c : Code} {w : AW} {nL : Nat} {cells slots : Nat}
variable {cc : ByteArray} {pc : Nat} {L : List (Nat × AV)} {σ : AMem}
theorem am_retI {N : Nat} {Q : AMem → Prop} (hx : p.tables.exec = Jvm.exec) (hb : c.code = cc) (hlk : meth.locks = false) (hK : am_K w s) (hr : meth.sig.returnType = none) (hd : decode cc pc = .ok (.return_, 1)) (hq : Q σ) :
    am_M p l e R s m args below meth c (MQ below (am_QcI w N Q) args s cells slots (fun q => w.1 ≤ q)) w (GC (N : Int)) cells slots nL pc L [] σ :=
  fun H locs ls r1 r2 r3 r4 r5 r6 r7 => W.vret hx hb hr (fun t ht hW => ⟨σ, rfl, by rw [ht]; exact r1, hK.moved hW, hq, by rw [ht]; exact r3, fun q hq => by rw [ht]; exact r4 q hq⟩) r2 hd hlk
end AMAL10
