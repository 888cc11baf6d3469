/-! ALLOCATING: a layout that grows by one cell -/
def am_z (σ : AMem) (a : Int) : AMem := fun c k => if c = a then 0 else σ c k
def am_nxt (G : AG) (N : Int) (kd : Nat) (G' : AG) : Prop := (∀ a, G'.1 a = if a = N + 1 then kd else G.1 a) ∧ G'.2.1 = G.2.1 ∧ G'.2.2 = G.2.2 ∧ (∀ a, N < a → G.1 a = 0) ∧ 0 ≤ N ∧ kd ≠ 0
theorem am_old_rep {w : AW} {G : AG} {σ : AMem} {H H' : Heap} {N : Int} (hR : am_rep w G σ H) (h0 : ∀ a, N < a → G.1 a = 0) (hH : ∀ q, q < H.size → H'[q]? = H[q]?) : am_rep w G (am_z σ (N + 1)) H' := by
  intro a ha
  have hne : a ≠ N + 1 := fun e => ha (h0 a (by omega))
  have hz : ∀ k, am_z σ (N + 1) a k = σ a k := fun k => if_neg hne
  obtain ⟨h1, h2, h3⟩ := am_rep_grow hR hH a ha
  refine ⟨h1, fun hk => ?_, fun hk => ?_⟩
  · obtain ⟨t, g1, g2, g2', g3, g4⟩ := h2 hk
    exact ⟨t, g1, g2, g2', by simp only [hz]; exact g3, fun j hj hj' => by rw [hz]; exact g4 j hj hj'⟩
  · obtain ⟨q, g1, g2, g3, g4⟩ := h3 hk
    exact ⟨q, g1, by simp only [hz]; exact g2, fun k hk' => by rw [hz]; exact g3 k hk', fun k hk' => by rw [hz]; exact g4 k hk'⟩
/-- a new array of zeros -/
theorem am_push_arr {w : AW} {G G' : AG} {σ : AMem} {H H' : Heap} {N : Int} {kd : Nat} {t : FieldType} (hn : am_nxt G N kd G') (hR : am_rep w G σ H) (hH : ∀ q, q < H.size → H'[q]? = H[q]?) (h20 : kd < 20) (ht : am_ak[kd - 1]? = some t) (hl : 0 ≤ G.2.1 (N + 1)) (hl2 : G.2.1 (N + 1) ≤ 2147483647)
    (hc : H'[am_adr w.1 (N + 1)]? = some (arrV (w.2.2 kd) (G.2.1 (N + 1)).toNat (fun _ => am_val w.1 (am_tag t, 0)))) (hf : am_fok t 0) : am_rep w G' (am_z σ (N + 1)) H' := by
  obtain ⟨n1, n2, n3, n4, n5, n6⟩ := hn
  have hold := am_old_rep hR n4 hH
  intro a ha
  by_cases e : a = N + 1
  · subst e
    have hz : ∀ k, am_z σ (N + 1) (N + 1) k = 0 := fun k => if_pos rfl
    have hG : G'.1 (N + 1) = kd := by rw [n1, if_pos rfl]
    refine ⟨by omega, fun _ => ?_, fun hk => by omega⟩
    refine ⟨t, by rw [hG]; exact ht, by rw [n2]; exact hl, by rw [n2]; exact hl2, ?_, fun j _ _ => by rw [hz]; exact hf⟩
    rw [hG, n2]
    simp only [hz]
    exact hc
  · have hG : G'.1 a = G.1 a := by rw [n1, if_neg e]
    obtain ⟨h1, h2, h3⟩ := hold a (by rw [← hG]; exact ha)
    refine ⟨h1, fun hk => ?_, fun hk => ?_⟩
    · obtain ⟨t', g⟩ := h2 (by omega)
      refine ⟨t', ?_⟩
      rw [hG, n2]
      exact g
    · obtain ⟨q, g⟩ := h3 (by omega)
      refine ⟨q, ?_⟩
      rw [hG, n3]
      exact g
section AMAL
variable {p : Program} {l : Launch} {e : Env} {R : Room} {s : State} {m : MethodId} {args : Array Value} {below : List Frame} {meth : Method} {c : Code} {w : AW} {G G' : AG} {nL : Nat} {QQ : State → Prop} {cells slots : Nat}
variable {cc : ByteArray} {pc : Nat} {L : List (Nat × AV)} {S : List AV} {σ : AMem}
theorem am_hsize {H : Heap} {locs : List Loc} {T : State} {N0 : Nat} (hs : s.heap.size = w.1 + N0) (r1 : am_rep w G σ H) (r3 : s.heap.size ≤ H.size) (hTT : T.heap = H) (X : Stand p l e R s m args below meth c T locs cells slots) (hp : cells = 0 ∨ G.1 ((N0 + cells : Nat) : Int) ≠ 0) : H.size = w.1 + (N0 + cells) := by
  obtain ⟨-, -, h3, -⟩ := X.same
  have h3' : T.heap.size ≤ s.heap.size + cells := h3
  rw [hTT] at h3'
  rcases hp with h | h
  · omega
  · obtain ⟨a1, a2, a3⟩ := r1 _ h
    have hlt : am_adr w.1 ((N0 + cells : Nat) : Int) < H.size := by
      by_cases h20 : G.1 ((N0 + cells : Nat) : Int) < 20
      · obtain ⟨t, -, -, -, g3, -⟩ := a2 h20
        exact (Array.getElem?_eq_some_iff.mp g3).1
      · obtain ⟨q, -, ⟨cell, g3, -⟩, -⟩ := a3 (by omega)
        exact (Array.getElem?_eq_some_iff.mp g3).1
    unfold am_adr at hlt
    omega
theorem am_newarr (hx : p.tables.exec = Jvm.exec) (hb : c.code = cc) (hT : ∀ q ∈ am_tbl, q.before args s = true) (hK : am_K w s) {N0 : Nat} (hs : s.heap.size = w.1 + N0) {atype : ArrayType} {kd : Nat} (harr : Cond.arrayClass (newarray.typeOf atype) ∈ am_tbl) (ht : am_ak[kd - 1]? = some (newarray.typeOf atype)) (h1k : 1 ≤ kd) (h20 : kd < 20) (hdf : ∀ b, defaultValue (newarray.typeOf atype) = am_val b (am_tag (newarray.typeOf atype), 0)) (hfk : am_fok (newarray.typeOf atype) 0)
    (hn : am_nxt G ((N0 + cells : Nat) : Int) kd G') (hp : cells = 0 ∨ G.1 ((N0 + cells : Nat) : Int) ≠ 0) {n : Nat} (hl : G.2.1 (((N0 + cells : Nat) : Int) + 1) = (n : Int)) (hn2 : n ≤ 67108864) (hc1 : cells + 1 ≤ R.cells) (hc2 : slots + n ≤ R.slots) (hd : decode cc pc = .ok (.newarray atype, 2))
    (kk : am_M p l e R s m args below meth c QQ w G' (cells + 1) (slots + n) nL (pc + 2) L ((2, ((N0 + cells : Nat) : Int) + 1) :: S) (am_z σ (((N0 + cells : Nat) : Int) + 1))) : am_M p l e R s m args below meth c QQ w G cells slots nL pc L ((0, (n : Int)) :: S) σ := by
  intro H locs ls r1 r2 r3 r4 r5 r6 r7 T hTT X
  have hsz := am_hsize hs r1 r3 hTT X hp
  have hadr : @Eq Nat (am_adr w.1 (((N0 + cells : Nat) : Int) + 1)) (w.1 + (N0 + cells)) := by
    show w.1 + ((((N0 + cells : Nat) : Int) + 1) - 1).toNat = _
    omega
  have hr : am_r32 (n : Int) := by unfold am_r32; omega
  obtain ⟨z1, z2⟩ := am_ixr (j := (n : Int)) (by omega) hr
  have hbytes : n * componentBytes (newarray.typeOf atype) ≤ 536870912 := by
    have : componentBytes (newarray.typeOf atype) ≤ 8 := by cases atype <;> decide
    calc n * componentBytes (newarray.typeOf atype) ≤ n * 8 := Nat.mul_le_mul_left _ this
      _ ≤ 536870912 := by omega
  refine (va_newaK (N := n) hx hb (hT _ harr) (g := F0 m pc ls (((0, (n : Int)) :: S).map (am_val w.1))) rfl hd (n := Int32.ofInt (n : Int)) (rest := S.map (am_val w.1)) rfl z2 (by rw [z1]; omega) hbytes hc1 hc2 (h := w.1 + (N0 + cells)) hsz (fun H' cA e1 e2 e3 e4 e5 => ?_)) T hTT X
  have hcA : cA = w.2.2 kd := by
    have := (hK.1.2 (kd - 1) (w.2.2 kd, newarray.typeOf atype) (by
      have hlt : kd - 1 < 9 := (List.getElem?_eq_some_iff.mp ht).1
      unfold am_tys
      rw [List.getElem?_map, List.getElem?_range hlt]
      simp only [Option.map_some, Option.some.injEq, Prod.mk.injEq]
      refine ⟨by rw [Nat.sub_add_cancel h1k], ?_⟩
      rw [List.getD_eq_getElem?_getD, ht]; rfl)).2
    exact Option.some.inj (e5.symm.trans (by cases atype <;> exact this))
  have hval : ∀ z : Int, z = (((N0 + cells : Nat) : Int) + 1) → am_val w.1 (2, z) = .ref (w.1 + (N0 + cells)) := fun z hz => by
    subst hz
    rw [am_val2 _ (by omega)]
    exact congrArg Value.ref hadr
  have hrep : am_rep w G' (am_z σ (((N0 + cells : Nat) : Int) + 1)) H' := am_push_arr hn r1 (fun q hq => e3 q (by rw [← hsz]; exact hq)) h20 ht (by omega) (by omega) (by
    rw [show am_adr w.1 (((N0 + cells : Nat) : Int) + 1) = w.1 + (N0 + cells) from hadr, e1, hl, hcA]
    congr 1
    congr 1
    funext _
    exact hdf w.1) hfk
  have := kk H' locs ls hrep r2 (by rw [e2]; omega) (fun q hq => by rw [e3 q (by omega)]; exact r4 q hq) r5 r6 (am_ok2 (show am_ok (2, _) by show 0 ≤ _; omega) (am_tl r7))
  rw [List.map_cons, hval _ rfl] at this
  exact this
end AMAL
