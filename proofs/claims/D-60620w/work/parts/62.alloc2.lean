/-! ALLOCATING, part 2: a new object -/
theorem am_push_obj {w : AW} {G G' : AG} {σ : AMem} {H H' : Heap} {N : Int} {ci : Nat} {q : vw_C} (hn : am_nxt G N (20 + ci) G') (hR : am_rep w G σ H) (hH : ∀ q, q < H.size → H'[q]? = H[q]?) (hq : cls9[ci]? = some q)
    (hc : t_OB (am_adr w.1 (N + 1)) (w.2.1.1 ci) q.2.2 (w.2.1.2 ci) H' (fun k => am_val w.1 (am_tag (am_ft ci k), 0))) (hf : ∀ k, k < q.2.2 → am_fok (am_ft ci k) 0) (h0 : ∀ k, G.2.2 (N + 1) k = 0) : am_rep w G' (am_z σ (N + 1)) H' := by
  obtain ⟨n1, n2, n3, n4, n5, n6⟩ := hn
  have hold := am_old_rep hR n4 hH
  intro a ha
  by_cases e : a = N + 1
  · subst e
    have hz : ∀ k, am_z σ (N + 1) (N + 1) k = 0 := fun k => if_pos rfl
    have hG : G'.1 (N + 1) = 20 + ci := by rw [n1, if_pos rfl]
    have e1 : G'.1 (N + 1) - 20 = ci := by omega
    refine ⟨by omega, fun hk => by omega, fun _ => ?_⟩
    refine ⟨q, by rw [e1]; exact hq, ?_, fun k hk => by rw [hz, e1]; exact hf k hk, fun k hk => absurd (by rw [n3]; exact h0 k) hk⟩
    rw [e1]
    simp only [hz]
    exact hc
  · have hG : G'.1 a = G.1 a := by rw [n1, if_neg e]
    obtain ⟨h1, h2, h3⟩ := hold a (by rw [← hG]; exact ha)
    refine ⟨h1, fun hk => ?_, fun hk => ?_⟩
    · obtain ⟨t', g⟩ := h2 (by omega)
      refine ⟨t', ?_⟩
      rw [hG, n2]
      exact g
    · obtain ⟨q, g⟩ := h3 (by omega)
      refine ⟨q, ?_⟩
      rw [hG, n3]
      exact g
section AMAL2
variable {p : Program} {l : Launch} {e : Env} {R : Room} {s : State} {m : MethodId} {args : Array Value} {below : List Frame} {meth : Method} {c : Code} {w : AW} {G G' : AG} {nL : Nat} {QQ : State → Prop} {cells slots : Nat}
variable {cc : ByteArray} {pc : Nat} {L : List (Nat × AV)} {S : List AV} {σ : AMem}
theorem am_newobj (hx : p.tables.exec = Jvm.exec) (hb : c.code = cc) {own : String} (hown : s.vm.findClass own = some m.cls) (hT : ∀ q ∈ am_tbl, q.before args s = true) (hK : am_K w s) {N0 : Nat} (hs : s.heap.size = w.1 + N0) {ci index : Nat} {q : vw_C} (hq : cls9[ci]? = some q) (hcl : Cond.classLink own index q.1 ∈ am_tbl) (hins : Cond.instantiable q.1 q.2.2 ∈ am_tbl) (hini : Cond.initialized q.1 ∈ am_tbl)
    (hty : ∀ k, k < q.2.2 → parseFieldDescriptor (q.2.1 k).2.2.1 = some (am_ft ci k)) (hdf : ∀ k, k < q.2.2 → ∀ b, defaultValue (am_ft ci k) = am_val b (am_tag (am_ft ci k), 0)) (hfk : ∀ k, k < q.2.2 → am_fok (am_ft ci k) 0)
    (hn : am_nxt G ((N0 + cells : Nat) : Int) (20 + ci) G') (h0 : ∀ k, G.2.2 (((N0 + cells : Nat) : Int) + 1) k = 0) (hp : cells = 0 ∨ G.1 ((N0 + cells : Nat) : Int) ≠ 0) (hc1 : cells + 1 ≤ R.cells) (hc2 : slots + q.2.2 ≤ R.slots) (hd : decode cc pc = .ok (.new index, 3))
    (kk : am_M p l e R s m args below meth c QQ w G' (cells + 1) (slots + q.2.2) nL (pc + 3) L ((2, ((N0 + cells : Nat) : Int) + 1) :: S) (am_z σ (((N0 + cells : Nat) : Int) + 1))) : am_M p l e R s m args below meth c QQ w G cells slots nL pc L S σ := by
  intro H locs ls r1 r2 r3 r4 r5 r6 r7 T hTT X
  have hsz := am_hsize hs r1 r3 hTT X hp
  have hadr : @Eq Nat (am_adr w.1 (((N0 + cells : Nat) : Int) + 1)) (w.1 + (N0 + cells)) := by
    show w.1 + ((((N0 + cells : Nat) : Int) + 1) - 1).toNat = _
    omega
  have hKn := hK.1.1 ci q hq
  have hW : W p l e R s m args below meth c H locs cells slots QQ (F0 m pc ls (S.map (am_val w.1))) := by
    refine W.newcK hx hb hown (hT _ hcl) (hT _ hins) (hT _ hini) rfl hd hc1 hc2 hKn.2.1 hsz fun H1 kC hkC e1 z1 o1 => ?_
    have hval : ∀ z : Int, z = (((N0 + cells : Nat) : Int) + 1) → am_val w.1 (2, z) = .ref (w.1 + (N0 + cells)) := fun z hz => by
      subst hz
      rw [am_val2 _ (by omega)]
      exact congrArg Value.ref hadr
    have hob : t_OB (am_adr w.1 (((N0 + cells : Nat) : Int) + 1)) (w.2.1.1 ci) q.2.2 (w.2.1.2 ci) H1 (fun k => am_val w.1 (am_tag (am_ft ci k), 0)) := by
      rw [show am_adr w.1 (((N0 + cells : Nat) : Int) + 1) = w.1 + (N0 + cells) from hadr]
      exact (u_born (am_ft ci) hT (am_cls_in ci q hq) hKn hkC e1 hty).to (fun k hk => hdf k hk w.1)
    have hrep : am_rep w G' (am_z σ (((N0 + cells : Nat) : Int) + 1)) H1 := am_push_obj hn r1 (fun z hz => o1 z (by rw [← hsz]; exact hz)) hq hob hfk h0
    have := kk H1 locs ls hrep r2 (by rw [z1]; omega) (fun z hz => by rw [o1 z (by omega)]; exact r4 z hz) r5 r6 (am_ok2 (show am_ok (2, _) by show 0 ≤ _; omega) r7)
    rw [List.map_cons, hval _ rfl] at this
    exact this
  exact hW T hTT X
end AMAL2
