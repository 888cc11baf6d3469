/-! THE ABSTRACT MACHINE, part 3: longs, conversions, stack, branches -/
section AMJ
variable {p : Program} {l : Launch} {e : Env} {R : Room} {s : State} {m : MethodId} {args : Array Value} {below : List Frame} {meth : Method} {c : Code} {QQ : State → Prop} {w : AW} {G : AG} {cells slots nL : Nat}
variable {cc : ByteArray} {pc : Nat} {L : List (Nat × AV)} {S : List AV} {σ : AMem}
theorem am_ldiv (hx : p.tables.exec = Jvm.exec) (hb : c.code = cc) {x y : Int} (hy : 0 < y) (hd : decode cc pc = .ok (.ldiv, 1)) (k : am_M p l e R s m args below meth c QQ w G cells slots nL (pc + 1) L ((1, x.tdiv y) :: S) σ) : am_M p l e R s m args below meth c QQ w G cells slots nL pc L ((1, y) :: (1, x) :: S) σ := by
  intro H locs ls r1 r2 r3 r4 r5 r6 r7
  have ox : am_r64 x := am_hd (am_tl r7)
  have oy : am_r64 y := am_hd r7
  have e : (Int64.ofInt x / Int64.ofInt y) = Int64.ofInt (x.tdiv y) := by
    rw [← Int64.toInt_inj, Int64.toInt_div, am_t64 ox, am_t64 oy, am_w64]; rfl
  have hr : am_r64 (x.tdiv y) := by
    unfold am_r64 at *
    have h1 := Int.natAbs_tdiv x y
    have h2 : x.natAbs / y.natAbs ≤ x.natAbs := Nat.div_le_self _ _
    have h3 : (x.tdiv y).natAbs ≤ x.natAbs := by rw [h1]; exact h2
    have h4 : 0 ≤ x → 0 ≤ x.tdiv y := fun h => Int.tdiv_nonneg h (Int.le_of_lt hy)
    have h5 := Int.neg_tdiv x y
    have h6 : x ≤ 0 → 0 ≤ (-x).tdiv y := fun h => Int.tdiv_nonneg (by omega) (Int.le_of_lt hy)
    omega
  have h := k H locs ls r1 r2 r3 r4 r5 r6 (am_ok2 (am_ok64 hr) (am_tl (am_tl r7)))
  rw [List.map_cons, am_val1, ← e] at h
  refine lv_ldiv hx hb hd (fun q => ?_) h
  rw [← Int64.toInt_inj, am_t64 oy, Int64.toInt_zero] at q
  omega
theorem am_lrem (hx : p.tables.exec = Jvm.exec) (hb : c.code = cc) {x y : Int} (hy : 0 < y) (hd : decode cc pc = .ok (.lrem, 1)) (k : am_M p l e R s m args below meth c QQ w G cells slots nL (pc + 1) L ((1, x.tmod y) :: S) σ) : am_M p l e R s m args below meth c QQ w G cells slots nL pc L ((1, y) :: (1, x) :: S) σ := by
  intro H locs ls r1 r2 r3 r4 r5 r6 r7
  have ox : am_r64 x := am_hd (am_tl r7)
  have oy : am_r64 y := am_hd r7
  have h1 := Int.tmod_def x y
  have h2 : (x.tmod y).natAbs < y.natAbs := by rw [Int.natAbs_tmod]; exact Nat.mod_lt _ (by omega)
  have hr : am_r64 (x.tmod y) := by unfold am_r64 at *; omega
  have e : (Int64.ofInt x - Int64.ofInt x / Int64.ofInt y * Int64.ofInt y) = Int64.ofInt (x.tmod y) := by
    have e1 : (Int64.ofInt x / Int64.ofInt y) = Int64.ofInt (x.tdiv y) := by
      rw [← Int64.toInt_inj, Int64.toInt_div, am_t64 ox, am_t64 oy, am_w64]; rfl
    rw [e1, ← Int64.ofInt_mul, ← Int64.ofInt_sub, h1, Int.mul_comm]
  have h := k H locs ls r1 r2 r3 r4 r5 r6 (am_ok2 (am_ok64 hr) (am_tl (am_tl r7)))
  rw [List.map_cons, am_val1, ← e] at h
  refine lv_lrem hx hb hd (fun q => ?_) h
  rw [← Int64.toInt_inj, am_t64 oy, Int64.toInt_zero] at q
  omega
theorem am_lneg (hx : p.tables.exec = Jvm.exec) (hb : c.code = cc) {x : Int} (hd : decode cc pc = .ok (.lneg, 1)) (k : am_M p l e R s m args below meth c QQ w G cells slots nL (pc + 1) L ((1, w64 (-x)) :: S) σ) : am_M p l e R s m args below meth c QQ w G cells slots nL pc L ((1, x) :: S) σ := by
  intro H locs ls r1 r2 r3 r4 r5 r6 r7
  have h := k H locs ls r1 r2 r3 r4 r5 r6 (am_ok2 (am_ok64 (am_rw64 _)) (am_tl r7))
  rw [List.map_cons, am_val1, am_b64, Int64.ofInt_neg] at h
  exact lv_lneg hx hb hd h
theorem am_lshl (hx : p.tables.exec = Jvm.exec) (hb : c.code = cc) {x y : Int} (hd : decode cc pc = .ok (.lshl, 1)) (k : am_M p l e R s m args below meth c QQ w G cells slots nL (pc + 1) L ((1, l_shl x y) :: S) σ) : am_M p l e R s m args below meth c QQ w G cells slots nL pc L ((0, y) :: (1, x) :: S) σ := by
  intro H locs ls r1 r2 r3 r4 r5 r6 r7
  have h := k H locs ls r1 r2 r3 r4 r5 r6 (am_ok2 (am_ok64 (am_o64 _)) (am_tl (am_tl r7)))
  exact lv_lshl hx hb hd (by unfold l_shl; rw [Int64.ofInt_toInt]) h
theorem am_lshr (hx : p.tables.exec = Jvm.exec) (hb : c.code = cc) {x y : Int} (hd : decode cc pc = .ok (.lshr, 1)) (k : am_M p l e R s m args below meth c QQ w G cells slots nL (pc + 1) L ((1, l_shr x y) :: S) σ) : am_M p l e R s m args below meth c QQ w G cells slots nL pc L ((0, y) :: (1, x) :: S) σ := by
  intro H locs ls r1 r2 r3 r4 r5 r6 r7
  have h := k H locs ls r1 r2 r3 r4 r5 r6 (am_ok2 (am_ok64 (am_o64 _)) (am_tl (am_tl r7)))
  exact lv_lshr hx hb hd (by unfold l_shr; rw [Int64.ofInt_toInt]) h
theorem am_lushr (hx : p.tables.exec = Jvm.exec) (hb : c.code = cc) {x y : Int} (hd : decode cc pc = .ok (.lushr, 1)) (k : am_M p l e R s m args below meth c QQ w G cells slots nL (pc + 1) L ((1, l_ushr x y) :: S) σ) : am_M p l e R s m args below meth c QQ w G cells slots nL pc L ((0, y) :: (1, x) :: S) σ := by
  intro H locs ls r1 r2 r3 r4 r5 r6 r7
  have h := k H locs ls r1 r2 r3 r4 r5 r6 (am_ok2 (am_ok64 (am_o64 _)) (am_tl (am_tl r7)))
  exact lv_lushr hx hb hd (by unfold l_ushr; rw [Int64.ofInt_toInt]) h
theorem am_ai2l (hx : p.tables.exec = Jvm.exec) (hb : c.code = cc) {x : Int} (hd : decode cc pc = .ok (.i2l, 1)) (k : am_M p l e R s m args below meth c QQ w G cells slots nL (pc + 1) L ((1, x) :: S) σ) : am_M p l e R s m args below meth c QQ w G cells slots nL pc L ((0, x) :: S) σ := by
  intro H locs ls r1 r2 r3 r4 r5 r6 r7
  have ox : am_r32 x := am_hd r7
  have h := k H locs ls r1 r2 r3 r4 r5 r6 (am_ok2 (am_ok64 (by unfold am_r32 at ox; unfold am_r64; omega)) (am_tl r7))
  exact lv_i2l hx hb hd (am_i2l ox) h
theorem am_al2i (hx : p.tables.exec = Jvm.exec) (hb : c.code = cc) {x : Int} (hd : decode cc pc = .ok (.l2i, 1)) (k : am_M p l e R s m args below meth c QQ w G cells slots nL (pc + 1) L ((0, w32 x) :: S) σ) : am_M p l e R s m args below meth c QQ w G cells slots nL pc L ((1, x) :: S) σ := by
  intro H locs ls r1 r2 r3 r4 r5 r6 r7
  have h := k H locs ls r1 r2 r3 r4 r5 r6 (am_ok2 (am_ok32 (am_rw32 _)) (am_tl r7))
  exact lv_l2i hx hb hd (am_l2i x) h
theorem am_rw8 (x : Int) : -128 ≤ w8 x ∧ w8 x ≤ 127 := by
  have h1 := Int.bmod_lt (x := x) (m := 256) (by decide)
  have h2 := Int.le_bmod (x := x) (m := 256) (by decide)
  unfold w8; omega
theorem am_ai2b (hx : p.tables.exec = Jvm.exec) (hb : c.code = cc) {x : Int} (hd : decode cc pc = .ok (.i2b, 1)) (k : am_M p l e R s m args below meth c QQ w G cells slots nL (pc + 1) L ((0, w8 x) :: S) σ) : am_M p l e R s m args below meth c QQ w G cells slots nL pc L ((0, x) :: S) σ := by
  intro H locs ls r1 r2 r3 r4 r5 r6 r7
  have h8 := am_rw8 x
  have h := k H locs ls r1 r2 r3 r4 r5 r6 (am_ok2 (am_ok32 (by unfold am_r32; omega)) (am_tl r7))
  exact lv_i2b hx hb hd (am_i2b x) h
theorem am_cat1 (b : Nat) {v : AV} (h : v.1 ≠ 1) : (am_val b v).category = 1 := by rw [am_cat, if_neg h]
theorem am_dup (hx : p.tables.exec = Jvm.exec) (hb : c.code = cc) {v : AV} (h1 : v.1 ≠ 1) (hd : decode cc pc = .ok (.dup, 1)) (k : am_M p l e R s m args below meth c QQ w G cells slots nL (pc + 1) L (v :: v :: S) σ) : am_M p l e R s m args below meth c QQ w G cells slots nL pc L (v :: S) σ :=
  fun H locs ls r1 r2 r3 r4 r5 r6 r7 => lv_dup hx hb hd (am_cat1 _ h1) (k H locs ls r1 r2 r3 r4 r5 r6 (am_ok2 (am_hd r7) r7))
theorem am_pop1 (hx : p.tables.exec = Jvm.exec) (hb : c.code = cc) {v : AV} (h1 : v.1 ≠ 1) (hd : decode cc pc = .ok (.pop, 1)) (k : am_M p l e R s m args below meth c QQ w G cells slots nL (pc + 1) L S σ) : am_M p l e R s m args below meth c QQ w G cells slots nL pc L (v :: S) σ :=
  fun H locs ls r1 r2 r3 r4 r5 r6 r7 => lv_pop hx hb hd (am_cat1 _ h1) (k H locs ls r1 r2 r3 r4 r5 r6 (am_tl r7))
theorem am_dup_x1 (hx : p.tables.exec = Jvm.exec) (hb : c.code = cc) {u v : AV} (h1 : u.1 ≠ 1) (h2 : v.1 ≠ 1) (hd : decode cc pc = .ok (.dup_x1, 1)) (k : am_M p l e R s m args below meth c QQ w G cells slots nL (pc + 1) L (u :: v :: u :: S) σ) : am_M p l e R s m args below meth c QQ w G cells slots nL pc L (u :: v :: S) σ :=
  fun H locs ls r1 r2 r3 r4 r5 r6 r7 => lv_dup_x1 hx hb hd (am_cat1 _ h1) (am_cat1 _ h2) (k H locs ls r1 r2 r3 r4 r5 r6 (am_ok2 (am_hd r7) (am_ok2 (am_hd (am_tl r7)) (am_ok2 (am_hd r7) (am_tl (am_tl r7))))))
theorem am_dup2 (hx : p.tables.exec = Jvm.exec) (hb : c.code = cc) {u v : AV} (h1 : u.1 ≠ 1) (h2 : v.1 ≠ 1) (hd : decode cc pc = .ok (.dup2, 1)) (k : am_M p l e R s m args below meth c QQ w G cells slots nL (pc + 1) L (u :: v :: u :: v :: S) σ) : am_M p l e R s m args below meth c QQ w G cells slots nL pc L (u :: v :: S) σ :=
  fun H locs ls r1 r2 r3 r4 r5 r6 r7 => lv_dup2_11 hx hb hd (am_cat1 _ h1) (am_cat1 _ h2) (k H locs ls r1 r2 r3 r4 r5 r6 (am_ok2 (am_hd r7) (am_ok2 (am_hd (am_tl r7)) r7)))
def am_br (c : Jvm.ClassFile.Cond) (x y : Int) (A B : Prop) : Prop := match c with
  | .eq => if x = y then A else B
  | .ne => if x = y then B else A
  | .lt => if x < y then A else B
  | .ge => if x < y then B else A
  | .gt => if y < x then A else B
  | .le => if y < x then B else A
theorem am_goto (hx : p.tables.exec = Jvm.exec) (hb : c.code = cc) {off : Int} {tgt : Nat} (hd : decode cc pc = .ok (.goto off, 3)) (ht : (pc : Int) + off = tgt) (k : am_M p l e R s m args below meth c QQ w G cells slots nL tgt L S σ) : am_M p l e R s m args below meth c QQ w G cells slots nL pc L S σ :=
  fun H locs ls r1 r2 r3 r4 r5 r6 r7 => lv_goto hx hb hd ht (k H locs ls r1 r2 r3 r4 r5 r6 r7)
theorem am_lcv {x y : Int} (hx : am_r64 x) (hy : am_r64 y) : (lg_cmp (Int64.ofInt x) (Int64.ofInt y)).toInt = if y < x then 1 else if x = y then 0 else -1 := by
  unfold lg_cmp
  simp only [gt_iff_lt, am_lt64 hy hx, am_eq64 hx hy]
  split
  · rfl
  · split <;> rfl
theorem am_icmp_eq (hx : p.tables.exec = Jvm.exec) (hb : c.code = cc) {x y : Int} {off : Int} {tgt : Nat} (hd : decode cc pc = .ok (.if_icmp .eq off, 3)) (ht : (pc : Int) + off = tgt) (k : am_br .eq x y (am_M p l e R s m args below meth c QQ w G cells slots nL tgt L S σ) (am_M p l e R s m args below meth c QQ w G cells slots nL (pc + 3) L S σ)) : am_M p l e R s m args below meth c QQ w G cells slots nL pc L ((0, y) :: (0, x) :: S) σ := by
  intro H locs ls r1 r2 r3 r4 r5 r6 r7
  have ox : am_r32 x := am_hd (am_tl r7)
  have oy : am_r32 y := am_hd r7
  simp only [am_br] at k
  refine lv_icmp_eq hx hb hd ht (fun h => ?_) (fun h => ?_) <;> (simp only [Int32.le_iff_toInt_le, Int32.lt_iff_toInt_lt, ← Int32.toInt_inj, am_t32 ox, am_t32 oy] at h; split at k <;> first | exact k H locs ls r1 r2 r3 r4 r5 r6 (am_tl (am_tl r7)) | (exfalso; omega))
theorem am_if_eq (hx : p.tables.exec = Jvm.exec) (hb : c.code = cc) {x : Int} {off : Int} {tgt : Nat} (hd : decode cc pc = .ok (.ifCond .eq off, 3)) (ht : (pc : Int) + off = tgt) (k : am_br .eq x 0 (am_M p l e R s m args below meth c QQ w G cells slots nL tgt L S σ) (am_M p l e R s m args below meth c QQ w G cells slots nL (pc + 3) L S σ)) : am_M p l e R s m args below meth c QQ w G cells slots nL pc L ((0, x) :: S) σ := by
  intro H locs ls r1 r2 r3 r4 r5 r6 r7
  have ox : am_r32 x := am_hd r7
  simp only [am_br] at k
  refine lv_if_eq hx hb hd ht (fun h => ?_) (fun h => ?_) <;> (simp only [Int32.le_iff_toInt_le, Int32.lt_iff_toInt_lt, ← Int32.toInt_inj, am_t32 ox, Int32.toInt_zero] at h; split at k <;> first | exact k H locs ls r1 r2 r3 r4 r5 r6 (am_tl r7) | (exfalso; omega))
theorem am_lcmp_eq (hx : p.tables.exec = Jvm.exec) (hb : c.code = cc) {x y : Int} {off : Int} {tgt : Nat} (hd1 : decode cc pc = .ok (.lcmp, 1)) (hd : decode cc (pc + 1) = .ok (.ifCond .eq off, 3)) (ht : ((pc + 1 : Nat) : Int) + off = tgt) (k : am_br .eq x y (am_M p l e R s m args below meth c QQ w G cells slots nL tgt L S σ) (am_M p l e R s m args below meth c QQ w G cells slots nL (pc + 1 + 3) L S σ)) : am_M p l e R s m args below meth c QQ w G cells slots nL pc L ((1, y) :: (1, x) :: S) σ := by
  intro H locs ls r1 r2 r3 r4 r5 r6 r7
  have ox : am_r64 x := am_hd (am_tl r7)
  have oy : am_r64 y := am_hd r7
  have e := am_lcv ox oy
  simp only [am_br] at k
  refine W.lcmp hx hb hd1 (lv_if_eq hx hb hd ht (fun h => ?_) (fun h => ?_)) <;> (simp only [Int32.le_iff_toInt_le, Int32.lt_iff_toInt_lt, ← Int32.toInt_inj, e, Int32.toInt_zero] at h; split at k <;> first | exact k H locs ls r1 r2 r3 r4 r5 r6 (am_tl (am_tl r7)) | (exfalso; split at h <;> first | omega | (split at h <;> omega)))
theorem am_icmp_ne (hx : p.tables.exec = Jvm.exec) (hb : c.code = cc) {x y : Int} {off : Int} {tgt : Nat} (hd : decode cc pc = .ok (.if_icmp .ne off, 3)) (ht : (pc : Int) + off = tgt) (k : am_br .ne x y (am_M p l e R s m args below meth c QQ w G cells slots nL tgt L S σ) (am_M p l e R s m args below meth c QQ w G cells slots nL (pc + 3) L S σ)) : am_M p l e R s m args below meth c QQ w G cells slots nL pc L ((0, y) :: (0, x) :: S) σ := by
  intro H locs ls r1 r2 r3 r4 r5 r6 r7
  have ox : am_r32 x := am_hd (am_tl r7)
  have oy : am_r32 y := am_hd r7
  simp only [am_br] at k
  refine lv_icmp_ne hx hb hd ht (fun h => ?_) (fun h => ?_) <;> (simp only [Int32.le_iff_toInt_le, Int32.lt_iff_toInt_lt, ← Int32.toInt_inj, am_t32 ox, am_t32 oy] at h; split at k <;> first | exact k H locs ls r1 r2 r3 r4 r5 r6 (am_tl (am_tl r7)) | (exfalso; omega))
theorem am_if_ne (hx : p.tables.exec = Jvm.exec) (hb : c.code = cc) {x : Int} {off : Int} {tgt : Nat} (hd : decode cc pc = .ok (.ifCond .ne off, 3)) (ht : (pc : Int) + off = tgt) (k : am_br .ne x 0 (am_M p l e R s m args below meth c QQ w G cells slots nL tgt L S σ) (am_M p l e R s m args below meth c QQ w G cells slots nL (pc + 3) L S σ)) : am_M p l e R s m args below meth c QQ w G cells slots nL pc L ((0, x) :: S) σ := by
  intro H locs ls r1 r2 r3 r4 r5 r6 r7
  have ox : am_r32 x := am_hd r7
  simp only [am_br] at k
  refine lv_if_ne hx hb hd ht (fun h => ?_) (fun h => ?_) <;> (simp only [Int32.le_iff_toInt_le, Int32.lt_iff_toInt_lt, ← Int32.toInt_inj, am_t32 ox, Int32.toInt_zero] at h; split at k <;> first | exact k H locs ls r1 r2 r3 r4 r5 r6 (am_tl r7) | (exfalso; omega))
theorem am_lcmp_ne (hx : p.tables.exec = Jvm.exec) (hb : c.code = cc) {x y : Int} {off : Int} {tgt : Nat} (hd1 : decode cc pc = .ok (.lcmp, 1)) (hd : decode cc (pc + 1) = .ok (.ifCond .ne off, 3)) (ht : ((pc + 1 : Nat) : Int) + off = tgt) (k : am_br .ne x y (am_M p l e R s m args below meth c QQ w G cells slots nL tgt L S σ) (am_M p l e R s m args below meth c QQ w G cells slots nL (pc + 1 + 3) L S σ)) : am_M p l e R s m args below meth c QQ w G cells slots nL pc L ((1, y) :: (1, x) :: S) σ := by
  intro H locs ls r1 r2 r3 r4 r5 r6 r7
  have ox : am_r64 x := am_hd (am_tl r7)
  have oy : am_r64 y := am_hd r7
  have e := am_lcv ox oy
  simp only [am_br] at k
  refine W.lcmp hx hb hd1 (lv_if_ne hx hb hd ht (fun h => ?_) (fun h => ?_)) <;> (simp only [Int32.le_iff_toInt_le, Int32.lt_iff_toInt_lt, ← Int32.toInt_inj, e, Int32.toInt_zero] at h; split at k <;> first | exact k H locs ls r1 r2 r3 r4 r5 r6 (am_tl (am_tl r7)) | (exfalso; split at h <;> first | omega | (split at h <;> omega)))
theorem am_icmp_lt (hx : p.tables.exec = Jvm.exec) (hb : c.code = cc) {x y : Int} {off : Int} {tgt : Nat} (hd : decode cc pc = .ok (.if_icmp .lt off, 3)) (ht : (pc : Int) + off = tgt) (k : am_br .lt x y (am_M p l e R s m args below meth c QQ w G cells slots nL tgt L S σ) (am_M p l e R s m args below meth c QQ w G cells slots nL (pc + 3) L S σ)) : am_M p l e R s m args below meth c QQ w G cells slots nL pc L ((0, y) :: (0, x) :: S) σ := by
  intro H locs ls r1 r2 r3 r4 r5 r6 r7
  have ox : am_r32 x := am_hd (am_tl r7)
  have oy : am_r32 y := am_hd r7
  simp only [am_br] at k
  refine lv_icmp_lt hx hb hd ht (fun h => ?_) (fun h => ?_) <;> (simp only [Int32.le_iff_toInt_le, Int32.lt_iff_toInt_lt, ← Int32.toInt_inj, am_t32 ox, am_t32 oy] at h; split at k <;> first | exact k H locs ls r1 r2 r3 r4 r5 r6 (am_tl (am_tl r7)) | (exfalso; omega))
theorem am_if_lt (hx : p.tables.exec = Jvm.exec) (hb : c.code = cc) {x : Int} {off : Int} {tgt : Nat} (hd : decode cc pc = .ok (.ifCond .lt off, 3)) (ht : (pc : Int) + off = tgt) (k : am_br .lt x 0 (am_M p l e R s m args below meth c QQ w G cells slots nL tgt L S σ) (am_M p l e R s m args below meth c QQ w G cells slots nL (pc + 3) L S σ)) : am_M p l e R s m args below meth c QQ w G cells slots nL pc L ((0, x) :: S) σ := by
  intro H locs ls r1 r2 r3 r4 r5 r6 r7
  have ox : am_r32 x := am_hd r7
  simp only [am_br] at k
  refine lv_if_lt hx hb hd ht (fun h => ?_) (fun h => ?_) <;> (simp only [Int32.le_iff_toInt_le, Int32.lt_iff_toInt_lt, ← Int32.toInt_inj, am_t32 ox, Int32.toInt_zero] at h; split at k <;> first | exact k H locs ls r1 r2 r3 r4 r5 r6 (am_tl r7) | (exfalso; omega))
theorem am_lcmp_lt (hx : p.tables.exec = Jvm.exec) (hb : c.code = cc) {x y : Int} {off : Int} {tgt : Nat} (hd1 : decode cc pc = .ok (.lcmp, 1)) (hd : decode cc (pc + 1) = .ok (.ifCond .lt off, 3)) (ht : ((pc + 1 : Nat) : Int) + off = tgt) (k : am_br .lt x y (am_M p l e R s m args below meth c QQ w G cells slots nL tgt L S σ) (am_M p l e R s m args below meth c QQ w G cells slots nL (pc + 1 + 3) L S σ)) : am_M p l e R s m args below meth c QQ w G cells slots nL pc L ((1, y) :: (1, x) :: S) σ := by
  intro H locs ls r1 r2 r3 r4 r5 r6 r7
  have ox : am_r64 x := am_hd (am_tl r7)
  have oy : am_r64 y := am_hd r7
  have e := am_lcv ox oy
  simp only [am_br] at k
  refine W.lcmp hx hb hd1 (lv_if_lt hx hb hd ht (fun h => ?_) (fun h => ?_)) <;> (simp only [Int32.le_iff_toInt_le, Int32.lt_iff_toInt_lt, ← Int32.toInt_inj, e, Int32.toInt_zero] at h; split at k <;> first | exact k H locs ls r1 r2 r3 r4 r5 r6 (am_tl (am_tl r7)) | (exfalso; split at h <;> first | omega | (split at h <;> omega)))
theorem am_icmp_ge (hx : p.tables.exec = Jvm.exec) (hb : c.code = cc) {x y : Int} {off : Int} {tgt : Nat} (hd : decode cc pc = .ok (.if_icmp .ge off, 3)) (ht : (pc : Int) + off = tgt) (k : am_br .ge x y (am_M p l e R s m args below meth c QQ w G cells slots nL tgt L S σ) (am_M p l e R s m args below meth c QQ w G cells slots nL (pc + 3) L S σ)) : am_M p l e R s m args below meth c QQ w G cells slots nL pc L ((0, y) :: (0, x) :: S) σ := by
  intro H locs ls r1 r2 r3 r4 r5 r6 r7
  have ox : am_r32 x := am_hd (am_tl r7)
  have oy : am_r32 y := am_hd r7
  simp only [am_br] at k
  refine lv_icmp_ge hx hb hd ht (fun h => ?_) (fun h => ?_) <;> (simp only [Int32.le_iff_toInt_le, Int32.lt_iff_toInt_lt, ← Int32.toInt_inj, am_t32 ox, am_t32 oy] at h; split at k <;> first | exact k H locs ls r1 r2 r3 r4 r5 r6 (am_tl (am_tl r7)) | (exfalso; omega))
theorem am_if_ge (hx : p.tables.exec = Jvm.exec) (hb : c.code = cc) {x : Int} {off : Int} {tgt : Nat} (hd : decode cc pc = .ok (.ifCond .ge off, 3)) (ht : (pc : Int) + off = tgt) (k : am_br .ge x 0 (am_M p l e R s m args below meth c QQ w G cells slots nL tgt L S σ) (am_M p l e R s m args below meth c QQ w G cells slots nL (pc + 3) L S σ)) : am_M p l e R s m args below meth c QQ w G cells slots nL pc L ((0, x) :: S) σ := by
  intro H locs ls r1 r2 r3 r4 r5 r6 r7
  have ox : am_r32 x := am_hd r7
  simp only [am_br] at k
  refine lv_if_ge hx hb hd ht (fun h => ?_) (fun h => ?_) <;> (simp only [Int32.le_iff_toInt_le, Int32.lt_iff_toInt_lt, ← Int32.toInt_inj, am_t32 ox, Int32.toInt_zero] at h; split at k <;> first | exact k H locs ls r1 r2 r3 r4 r5 r6 (am_tl r7) | (exfalso; omega))
theorem am_lcmp_ge (hx : p.tables.exec = Jvm.exec) (hb : c.code = cc) {x y : Int} {off : Int} {tgt : Nat} (hd1 : decode cc pc = .ok (.lcmp, 1)) (hd : decode cc (pc + 1) = .ok (.ifCond .ge off, 3)) (ht : ((pc + 1 : Nat) : Int) + off = tgt) (k : am_br .ge x y (am_M p l e R s m args below meth c QQ w G cells slots nL tgt L S σ) (am_M p l e R s m args below meth c QQ w G cells slots nL (pc + 1 + 3) L S σ)) : am_M p l e R s m args below meth c QQ w G cells slots nL pc L ((1, y) :: (1, x) :: S) σ := by
  intro H locs ls r1 r2 r3 r4 r5 r6 r7
  have ox : am_r64 x := am_hd (am_tl r7)
  have oy : am_r64 y := am_hd r7
  have e := am_lcv ox oy
  simp only [am_br] at k
  refine W.lcmp hx hb hd1 (lv_if_ge hx hb hd ht (fun h => ?_) (fun h => ?_)) <;> (simp only [Int32.le_iff_toInt_le, Int32.lt_iff_toInt_lt, ← Int32.toInt_inj, e, Int32.toInt_zero] at h; split at k <;> first | exact k H locs ls r1 r2 r3 r4 r5 r6 (am_tl (am_tl r7)) | (exfalso; split at h <;> first | omega | (split at h <;> omega)))
theorem am_icmp_gt (hx : p.tables.exec = Jvm.exec) (hb : c.code = cc) {x y : Int} {off : Int} {tgt : Nat} (hd : decode cc pc = .ok (.if_icmp .gt off, 3)) (ht : (pc : Int) + off = tgt) (k : am_br .gt x y (am_M p l e R s m args below meth c QQ w G cells slots nL tgt L S σ) (am_M p l e R s m args below meth c QQ w G cells slots nL (pc + 3) L S σ)) : am_M p l e R s m args below meth c QQ w G cells slots nL pc L ((0, y) :: (0, x) :: S) σ := by
  intro H locs ls r1 r2 r3 r4 r5 r6 r7
  have ox : am_r32 x := am_hd (am_tl r7)
  have oy : am_r32 y := am_hd r7
  simp only [am_br] at k
  refine lv_icmp_gt hx hb hd ht (fun h => ?_) (fun h => ?_) <;> (simp only [Int32.le_iff_toInt_le, Int32.lt_iff_toInt_lt, ← Int32.toInt_inj, am_t32 ox, am_t32 oy] at h; split at k <;> first | exact k H locs ls r1 r2 r3 r4 r5 r6 (am_tl (am_tl r7)) | (exfalso; omega))
theorem am_if_gt (hx : p.tables.exec = Jvm.exec) (hb : c.code = cc) {x : Int} {off : Int} {tgt : Nat} (hd : decode cc pc = .ok (.ifCond .gt off, 3)) (ht : (pc : Int) + off = tgt) (k : am_br .gt x 0 (am_M p l e R s m args below meth c QQ w G cells slots nL tgt L S σ) (am_M p l e R s m args below meth c QQ w G cells slots nL (pc + 3) L S σ)) : am_M p l e R s m args below meth c QQ w G cells slots nL pc L ((0, x) :: S) σ := by
  intro H locs ls r1 r2 r3 r4 r5 r6 r7
  have ox : am_r32 x := am_hd r7
  simp only [am_br] at k
  refine lv_if_gt hx hb hd ht (fun h => ?_) (fun h => ?_) <;> (simp only [Int32.le_iff_toInt_le, Int32.lt_iff_toInt_lt, ← Int32.toInt_inj, am_t32 ox, Int32.toInt_zero] at h; split at k <;> first | exact k H locs ls r1 r2 r3 r4 r5 r6 (am_tl r7) | (exfalso; omega))
theorem am_lcmp_gt (hx : p.tables.exec = Jvm.exec) (hb : c.code = cc) {x y : Int} {off : Int} {tgt : Nat} (hd1 : decode cc pc = .ok (.lcmp, 1)) (hd : decode cc (pc + 1) = .ok (.ifCond .gt off, 3)) (ht : ((pc + 1 : Nat) : Int) + off = tgt) (k : am_br .gt x y (am_M p l e R s m args below meth c QQ w G cells slots nL tgt L S σ) (am_M p l e R s m args below meth c QQ w G cells slots nL (pc + 1 + 3) L S σ)) : am_M p l e R s m args below meth c QQ w G cells slots nL pc L ((1, y) :: (1, x) :: S) σ := by
  intro H locs ls r1 r2 r3 r4 r5 r6 r7
  have ox : am_r64 x := am_hd (am_tl r7)
  have oy : am_r64 y := am_hd r7
  have e := am_lcv ox oy
  simp only [am_br] at k
  refine W.lcmp hx hb hd1 (lv_if_gt hx hb hd ht (fun h => ?_) (fun h => ?_)) <;> (simp only [Int32.le_iff_toInt_le, Int32.lt_iff_toInt_lt, ← Int32.toInt_inj, e, Int32.toInt_zero] at h; split at k <;> first | exact k H locs ls r1 r2 r3 r4 r5 r6 (am_tl (am_tl r7)) | (exfalso; split at h <;> first | omega | (split at h <;> omega)))
theorem am_icmp_le (hx : p.tables.exec = Jvm.exec) (hb : c.code = cc) {x y : Int} {off : Int} {tgt : Nat} (hd : decode cc pc = .ok (.if_icmp .le off, 3)) (ht : (pc : Int) + off = tgt) (k : am_br .le x y (am_M p l e R s m args below meth c QQ w G cells slots nL tgt L S σ) (am_M p l e R s m args below meth c QQ w G cells slots nL (pc + 3) L S σ)) : am_M p l e R s m args below meth c QQ w G cells slots nL pc L ((0, y) :: (0, x) :: S) σ := by
  intro H locs ls r1 r2 r3 r4 r5 r6 r7
  have ox : am_r32 x := am_hd (am_tl r7)
  have oy : am_r32 y := am_hd r7
  simp only [am_br] at k
  refine lv_icmp_le hx hb hd ht (fun h => ?_) (fun h => ?_) <;> (simp only [Int32.le_iff_toInt_le, Int32.lt_iff_toInt_lt, ← Int32.toInt_inj, am_t32 ox, am_t32 oy] at h; split at k <;> first | exact k H locs ls r1 r2 r3 r4 r5 r6 (am_tl (am_tl r7)) | (exfalso; omega))
theorem am_if_le (hx : p.tables.exec = Jvm.exec) (hb : c.code = cc) {x : Int} {off : Int} {tgt : Nat} (hd : decode cc pc = .ok (.ifCond .le off, 3)) (ht : (pc : Int) + off = tgt) (k : am_br .le x 0 (am_M p l e R s m args below meth c QQ w G cells slots nL tgt L S σ) (am_M p l e R s m args below meth c QQ w G cells slots nL (pc + 3) L S σ)) : am_M p l e R s m args below meth c QQ w G cells slots nL pc L ((0, x) :: S) σ := by
  intro H locs ls r1 r2 r3 r4 r5 r6 r7
  have ox : am_r32 x := am_hd r7
  simp only [am_br] at k
  refine lv_if_le hx hb hd ht (fun h => ?_) (fun h => ?_) <;> (simp only [Int32.le_iff_toInt_le, Int32.lt_iff_toInt_lt, ← Int32.toInt_inj, am_t32 ox, Int32.toInt_zero] at h; split at k <;> first | exact k H locs ls r1 r2 r3 r4 r5 r6 (am_tl r7) | (exfalso; omega))
theorem am_lcmp_le (hx : p.tables.exec = Jvm.exec) (hb : c.code = cc) {x y : Int} {off : Int} {tgt : Nat} (hd1 : decode cc pc = .ok (.lcmp, 1)) (hd : decode cc (pc + 1) = .ok (.ifCond .le off, 3)) (ht : ((pc + 1 : Nat) : Int) + off = tgt) (k : am_br .le x y (am_M p l e R s m args below meth c QQ w G cells slots nL tgt L S σ) (am_M p l e R s m args below meth c QQ w G cells slots nL (pc + 1 + 3) L S σ)) : am_M p l e R s m args below meth c QQ w G cells slots nL pc L ((1, y) :: (1, x) :: S) σ := by
  intro H locs ls r1 r2 r3 r4 r5 r6 r7
  have ox : am_r64 x := am_hd (am_tl r7)
  have oy : am_r64 y := am_hd r7
  have e := am_lcv ox oy
  simp only [am_br] at k
  refine W.lcmp hx hb hd1 (lv_if_le hx hb hd ht (fun h => ?_) (fun h => ?_)) <;> (simp only [Int32.le_iff_toInt_le, Int32.lt_iff_toInt_lt, ← Int32.toInt_inj, e, Int32.toInt_zero] at h; split at k <;> first | exact k H locs ls r1 r2 r3 r4 r5 r6 (am_tl (am_tl r7)) | (exfalso; split at h <;> first | omega | (split at h <;> omega)))
theorem am_ifnull (hx : p.tables.exec = Jvm.exec) (hb : c.code = cc) {x : Int} {off : Int} {tgt : Nat} (hd : decode cc pc = .ok (.ifnull off, 3)) (ht : (pc : Int) + off = tgt) (k : if x = 0 then am_M p l e R s m args below meth c QQ w G cells slots nL tgt L S σ else am_M p l e R s m args below meth c QQ w G cells slots nL (pc + 3) L S σ) : am_M p l e R s m args below meth c QQ w G cells slots nL pc L ((2, x) :: S) σ := by
  intro H locs ls r1 r2 r3 r4 r5 r6 r7
  rw [List.map_cons]
  by_cases h : x = 0
  · rw [if_pos h] at k; subst h
    exact lv_ifnullN hx hb hd ht (k H locs ls r1 r2 r3 r4 r5 r6 (am_tl r7))
  · rw [if_neg h] at k; rw [am_val2 _ h]
    exact lv_ifnull hx hb hd (k H locs ls r1 r2 r3 r4 r5 r6 (am_tl r7))
theorem am_ifnonnull (hx : p.tables.exec = Jvm.exec) (hb : c.code = cc) {x : Int} {off : Int} {tgt : Nat} (hd : decode cc pc = .ok (.ifnonnull off, 3)) (ht : (pc : Int) + off = tgt) (k : if x = 0 then am_M p l e R s m args below meth c QQ w G cells slots nL (pc + 3) L S σ else am_M p l e R s m args below meth c QQ w G cells slots nL tgt L S σ) : am_M p l e R s m args below meth c QQ w G cells slots nL pc L ((2, x) :: S) σ := by
  intro H locs ls r1 r2 r3 r4 r5 r6 r7
  rw [List.map_cons]
  by_cases h : x = 0
  · rw [if_pos h] at k; subst h
    exact lv_ifnonnullN hx hb hd (k H locs ls r1 r2 r3 r4 r5 r6 (am_tl r7))
  · rw [if_neg h] at k; rw [am_val2 _ h]
    exact lv_ifnonnull hx hb hd ht (k H locs ls r1 r2 r3 r4 r5 r6 (am_tl r7))
theorem am_acmp_eq (hx : p.tables.exec = Jvm.exec) (hb : c.code = cc) {x y : Int} {off : Int} {tgt : Nat} (hd : decode cc pc = .ok (.if_acmp .eq off, 3)) (ht : (pc : Int) + off = tgt) (k : if x = y then am_M p l e R s m args below meth c QQ w G cells slots nL tgt L S σ else am_M p l e R s m args below meth c QQ w G cells slots nL (pc + 3) L S σ) : am_M p l e R s m args below meth c QQ w G cells slots nL pc L ((2, y) :: (2, x) :: S) σ := by
  intro H locs ls r1 r2 r3 r4 r5 r6 r7
  have ox : 0 ≤ x := am_hd (am_tl r7)
  have oy : 0 ≤ y := am_hd r7
  rw [List.map_cons, List.map_cons, am_val2r, am_val2r]
  have e : ((if x = 0 then none else some (am_adr w.1 x)) = (if y = 0 then none else some (am_adr w.1 y))) ↔ x = y := by
    by_cases hx0 : x = 0 <;> by_cases hy0 : y = 0
    · simp [hx0, hy0]
    · simp [hx0, hy0]; omega
    · simp [hx0, hy0]
    · rw [if_neg hx0, if_neg hy0]
      exact ⟨fun h => am_adr_inj (by omega) (by omega) (Option.some.inj h), fun h => by rw [h]⟩
  refine lv_acmp_eq hx hb hd ht (fun h => ?_) (fun h => ?_)
  · rw [if_pos (e.mp h)] at k
    exact k H locs ls r1 r2 r3 r4 r5 r6 (am_tl (am_tl r7))
  · rw [if_neg (fun q => h (e.mpr q))] at k
    exact k H locs ls r1 r2 r3 r4 r5 r6 (am_tl (am_tl r7))
end AMJ
