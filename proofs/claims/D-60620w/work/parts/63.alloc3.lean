/-! ALLOCATING, part 3: a new array of references -/
section AMAL3
variable {p : Program} {l : Launch} {e : Env} {R : Room} {s : State} {m : MethodId} {args : Array Value} {below : List Frame} {meth : Method} {c : Code} {w : AW} {G G' : AG} {nL : Nat} {QQ : State → Prop} {cells slots : Nat}
variable {cc : ByteArray} {pc : Nat} {L : List (Nat × AV)} {S : List AV} {σ : AMem}
theorem am_newref (hx : p.tables.exec = Jvm.exec) (hb : c.code = cc) {own C : String} {index : Nat} (hown : s.vm.findClass own = some m.cls) (hT : ∀ q ∈ am_tbl, q.before args s = true) (hK : am_K w s) {N0 : Nat} (hs : s.heap.size = w.1 + N0) {kd : Nat} (hcl : Cond.classLink own index C ∈ am_tbl) (hover : (Cond.arrayOver (.object C)).before args s = true) (ht : am_ak[kd - 1]? = some (.object C)) (h1k : 1 ≤ kd) (h20 : kd < 20)
    (hn : am_nxt G ((N0 + cells : Nat) : Int) kd G') (hp : cells = 0 ∨ G.1 ((N0 + cells : Nat) : Int) ≠ 0) {n : Nat} (hl : G.2.1 (((N0 + cells : Nat) : Int) + 1) = (n : Int)) (hn2 : n ≤ 67108864) (hc1 : cells + 1 ≤ R.cells) (hc2 : slots + n ≤ R.slots) (hd : decode cc pc = .ok (.anewarray index, 3))
    (kk : am_M p l e R s m args below meth c QQ w G' (cells + 1) (slots + n) nL (pc + 3) L ((2, ((N0 + cells : Nat) : Int) + 1) :: S) (am_z σ (((N0 + cells : Nat) : Int) + 1))) : am_M p l e R s m args below meth c QQ w G cells slots nL pc L ((0, (n : Int)) :: S) σ := by
  intro H locs ls r1 r2 r3 r4 r5 r6 r7 T hTT X
  have hsz := am_hsize hs r1 r3 hTT X hp
  have hadr : @Eq Nat (am_adr w.1 (((N0 + cells : Nat) : Int) + 1)) (w.1 + (N0 + cells)) := by
    show w.1 + ((((N0 + cells : Nat) : Int) + 1) - 1).toNat = _
    omega
  have hr : am_r32 (n : Int) := by unfold am_r32; omega
  obtain ⟨z1, z2⟩ := am_ixr (j := (n : Int)) (by omega) hr
  have z3 : (Int32.ofInt (n : Int)).toNatClampNeg = n := by rw [z1]; omega
  have hW : W p l e R s m args below meth c H locs cells slots QQ (F0 m pc ls (((0, (n : Int)) :: S).map (am_val w.1))) := by
    refine W.anew (n := Int32.ofInt (n : Int)) (rest := S.map (am_val w.1)) hx hb hown (hT _ hcl) hover rfl hd rfl z2 (by rw [z3]; omega) hc1 (by rw [z3]; exact hc2) fun cA kA comp f1 f2 f3 f4 => ?_
    rw [z3]
    generalize hH1 : H.push ({ cls := cA, slots := Array.replicate n .null, vm := .none } : Cell) = H1
    have y1 : H1.size = H.size + 1 := by rw [← hH1, Array.size_push]
    have e1 : H1[H.size]? = some (arrV cA n (fun _ => .null)) := by rw [← hH1, Array.getElem?_push_size, ← arrV_new]
    have o1 : ∀ q : Nat, q < H.size → H1[q]? = H[q]? := fun q hq => by rw [← hH1, Array.getElem?_push, if_neg (Nat.ne_of_lt hq)]
    have hcA : cA = w.2.2 kd := by
      have h9 := (hK.1.2 (kd - 1) (w.2.2 (kd - 1 + 1), .object C) (am_tys_at w.2.2 ht)).2
      rw [Nat.sub_add_cancel h1k] at h9
      obtain ⟨kA', comp', g1, g2, g3, g4⟩ := h9
      first
        | exact Option.some.inj (f1.symm.trans g4)
        | exact Option.some.inj (f4.symm.trans g4)
    have hval : ∀ z : Int, z = (((N0 + cells : Nat) : Int) + 1) → am_val w.1 (2, z) = .ref (w.1 + (N0 + cells)) := fun z hz => by
      subst hz
      rw [am_val2 _ (by omega)]
      exact congrArg Value.ref hadr
    have hrep : am_rep w G' (am_z σ (((N0 + cells : Nat) : Int) + 1)) H1 := am_push_arr hn r1 o1 h20 ht (by omega) (by omega) (by
      rw [show am_adr w.1 (((N0 + cells : Nat) : Int) + 1) = H.size from hadr.trans hsz.symm, e1, hl, hcA]
      rfl) (show (0 : Int) ≤ 0 by decide)
    have := kk H1 locs ls hrep r2 (by rw [y1]; omega) (fun q hq => by rw [o1 q (by omega)]; exact r4 q hq) r5 r6 (am_ok2 (show am_ok (2, _) by show 0 ≤ _; omega) (am_tl r7))
    rw [List.map_cons, hval _ rfl, ← hsz] at this
    exact this
  exact hW T hTT X
end AMAL3
