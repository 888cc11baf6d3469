/-! THE ABSTRACT MACHINE, part 2: the picture of the heap, and a row for each instruction -/
abbrev AG : Type := (Int → Nat) × (Int → Int) × (Int → Nat → Nat)
abbrev AW : Type := Nat × va_G × (Nat → ClassId)
def am_tag (t : FieldType) : Nat := match t with | .long => 1 | .object _ => 2 | .array _ => 2 | _ => 0
def am_fok (t : FieldType) (x : Int) : Prop := match t with | .int => am_r32 x | .boolean => x = 0 ∨ x = 1 | .byte => -128 ≤ x ∧ x ≤ 127 | .long => am_r64 x | .object _ => 0 ≤ x | .array _ => 0 ≤ x | _ => False
def am_cellA (w : AW) (G : AG) (σ : AMem) (H : Heap) (a : Int) : Prop :=
  ∃ t, am_ak[G.1 a - 1]? = some t ∧ 0 ≤ G.2.1 a ∧ G.2.1 a ≤ 2147483647 ∧ H[am_adr w.1 a]? = some (arrV (w.2.2 (G.1 a)) (G.2.1 a).toNat (fun j => am_val w.1 (am_tag t, σ a j))) ∧ ∀ j : Int, 0 ≤ j → j < G.2.1 a → am_fok t (σ a j)
def am_cellO (w : AW) (G : AG) (σ : AMem) (H : Heap) (a : Int) : Prop :=
  ∃ q, cls9[G.1 a - 20]? = some q ∧ t_OB (am_adr w.1 a) (w.2.1.1 (G.1 a - 20)) q.2.2 (w.2.1.2 (G.1 a - 20)) H (fun k => am_val w.1 (am_tag (am_ft (G.1 a - 20) k), σ a k)) ∧ (∀ k : Nat, k < q.2.2 → am_fok (am_ft (G.1 a - 20) k) (σ a k)) ∧ ∀ k : Nat, G.2.2 a k ≠ 0 → σ a k = (G.2.2 a k : Nat)
def am_rep (w : AW) (G : AG) (σ : AMem) (H : Heap) : Prop := ∀ a : Int, G.1 a ≠ 0 → 1 ≤ a ∧ (G.1 a < 20 → am_cellA w G σ H a) ∧ (20 ≤ G.1 a → am_cellO w G σ H a)
def am_isN (q : Cond) : Bool := match q with | .fieldLinkNest .. => true | .methodLinkNest .. => true | _ => false
def am_nw : List Cond := tables_1.filter am_isN
def am_tys (ac : Nat → ClassId) : List (ClassId × FieldType) := (List.range 9).map (fun k => (ac (k + 1), am_ak.getD k .int))
def am_K (w : AW) (U : State) : Prop := va_K w.2.1 cls9 (am_tys w.2.2) U ∧ ∀ q ∈ am_nw, va_Nw q U
theorem am_K.moved {w : AW} {s U : State} (hW : s.WarmedH U.vm) (h : am_K w s) : am_K w U := by
  refine ⟨va_K.moved hW.alike h.1, fun q hq => ?_⟩
  have h1 := h.2 q hq
  have h2 := (List.mem_filter.mp hq).2
  unfold am_isN at h2
  split at h2
  · exact va_Nw.warmF hW h1
  · exact va_Nw.warmM hW h1
  · cases h2
theorem am_val0 (b : Nat) (x : Int) : am_val b (0, x) = .int (Int32.ofInt x) := rfl
theorem am_val1 (b : Nat) (x : Int) : am_val b (1, x) = .long (Int64.ofInt x) := rfl
theorem am_val2 (b : Nat) {x : Int} (h : x ≠ 0) : am_val b (2, x) = .ref (am_adr b x) := by simp [am_val, h]
theorem am_val2n (b : Nat) : am_val b (2, 0) = .null := rfl
theorem am_val2r (b : Nat) (x : Int) : am_val b (2, x) = va_rf (if x = 0 then none else some (am_adr b x)) := by
  by_cases h : x = 0
  · rw [h]; rfl
  · rw [am_val2 b h, if_neg h]; rfl
theorem am_cat (b : Nat) (v : AV) : (am_val b v).category = if v.1 = 1 then 2 else 1 := by
  unfold am_val
  by_cases h0 : v.1 = 0
  · simp [h0, Value.category]
  · by_cases h1 : v.1 = 1
    · simp [h1, Value.category]
    · by_cases h2 : v.2 = 0 <;> simp [h0, h1, h2, Value.category]
theorem am_adr_inj {b : Nat} {x y : Int} (hx : 1 ≤ x) (hy : 1 ≤ y) (h : am_adr b x = am_adr b y) : x = y := by
  unfold am_adr at h; omega
theorem am_fok_ok {t : FieldType} {x : Int} (h : am_fok t x) : am_ok (am_tag t, x) := by
  cases t <;> simp only [am_fok, am_tag, am_ok, am_r32, am_r64] at h ⊢ <;> simp <;> omega
def am_lv (b : Nat) (q : Nat × AV) : Nat × Value := (q.1, am_val b q.2)
def am_st1 (L : List (Nat × AV)) (i : Nat) (v : AV) : List (Nat × AV) := (i, v) :: L.filter (fun q => !(q.1 == i) && !(q.1 + 1 == i && q.2.1 == 1))
def am_st2 (L : List (Nat × AV)) (i : Nat) (v : AV) : List (Nat × AV) := (i, v) :: L.filter (fun q => !(q.1 == i) && (!(q.1 == i + 1) && !(q.1 + 1 == i && q.2.1 == 1)))
theorem am_cat2 (b : Nat) (v : AV) : ((am_val b v).category == 2) = (v.1 == 1) := by
  rw [am_cat]; by_cases h : v.1 = 1 <;> simp [h]
theorem am_st1_map (b : Nat) (L : List (Nat × AV)) (i : Nat) (v : AV) : (i, am_val b v) :: (L.map (am_lv b)).filter (fun q => !(q.1 == i) && !(q.1 + 1 == i && q.2.category == 2)) = (am_st1 L i v).map (am_lv b) := by
  unfold am_st1
  rw [List.map_cons, List.filter_map]
  congr 2
  refine List.filter_congr fun q _ => ?_
  simp only [Function.comp, am_lv, am_cat2]
theorem am_st2_map (b : Nat) (L : List (Nat × AV)) (i : Nat) (v : AV) : (i, am_val b v) :: (L.map (am_lv b)).filter (fun q => !(q.1 == i) && (!(q.1 == i + 1) && !(q.1 + 1 == i && q.2.category == 2))) = (am_st2 L i v).map (am_lv b) := by
  unfold am_st2
  rw [List.map_cons, List.filter_map]
  congr 2
  refine List.filter_congr fun q _ => ?_
  simp only [Function.comp, am_lv, am_cat2]
theorem am_st1_ok {L : List (Nat × AV)} {i : Nat} {v : AV} (h : ∀ q ∈ L, am_ok q.2) (hv : am_ok v) : ∀ q ∈ am_st1 L i v, am_ok q.2 := by
  intro q hq
  rcases List.mem_cons.mp hq with rfl | hq
  · exact hv
  · exact h q (List.mem_filter.mp hq).1
theorem am_st2_ok {L : List (Nat × AV)} {i : Nat} {v : AV} (h : ∀ q ∈ L, am_ok q.2) (hv : am_ok v) : ∀ q ∈ am_st2 L i v, am_ok q.2 := by
  intro q hq
  rcases List.mem_cons.mp hq with rfl | hq
  · exact hv
  · exact h q (List.mem_filter.mp hq).1
def am_lk : List (Nat × AV) → Nat → Option AV
  | [], _ => none
  | (j, v) :: r, i => if j = i then some v else am_lk r i
theorem am_lk_mem : ∀ {L : List (Nat × AV)} {i : Nat} {v : AV}, am_lk L i = some v → (i, v) ∈ L
  | [], _, _, h => by cases h
  | (j, u) :: r, i, v, h => by
    unfold am_lk at h
    by_cases e : j = i
    · rw [if_pos e] at h
      cases h; subst e
      exact List.mem_cons_self
    · rw [if_neg e] at h
      exact List.mem_cons_of_mem _ (am_lk_mem h)
def am_M (p : Program) (l : Launch) (e : Env) (R : Room) (s : State) (m : MethodId) (args : Array Value) (below : List Frame) (meth : Method) (c : Code) (QQ : State → Prop) (w : AW) (G : AG) (cells slots nL pc : Nat) (L : List (Nat × AV)) (S : List AV) (σ : AMem) : Prop :=
  ∀ (H : Heap) (locs : List Loc) (ls : Array Slot), am_rep w G σ H → (∀ q ∈ locs, w.1 ≤ q.base) → s.heap.size ≤ H.size → (∀ q, q < w.1 → H[q]? = s.heap[q]?) → lv_has ls nL (L.map (am_lv w.1)) → (∀ q ∈ L, am_ok q.2) → (∀ v ∈ S, am_ok v) → W p l e R s m args below meth c H locs cells slots QQ (F0 m pc ls (S.map (am_val w.1)))
theorem am_ok2 {v : AV} {S : List AV} (hv : am_ok v) (h : ∀ u ∈ S, am_ok u) : ∀ u ∈ v :: S, am_ok u := fun u hu => by
  rcases List.mem_cons.mp hu with rfl | hu
  · exact hv
  · exact h u hu
theorem am_ok32 {x : Int} (h : am_r32 x) : am_ok (0, x) := h
theorem am_ok64 {x : Int} (h : am_r64 x) : am_ok (1, x) := h
section AMI
variable {p : Program} {l : Launch} {e : Env} {R : Room} {s : State} {m : MethodId} {args : Array Value} {below : List Frame} {meth : Method} {c : Code} {QQ : State → Prop} {w : AW} {G : AG} {cells slots nL : Nat}
variable {cc : ByteArray} {pc : Nat} {L : List (Nat × AV)} {S : List AV} {σ : AMem}
theorem am_pushI (hx : p.tables.exec = Jvm.exec) (hb : c.code = cc) {n : Int} (hr : am_r32 n) {d : Nat} (hd : decode cc pc = .ok (.iconst n, 1)) (k : am_M p l e R s m args below meth c QQ w G cells slots nL (pc + 1) L ((0, n) :: S) σ) : am_M p l e R s m args below meth c QQ w G cells slots nL pc L S σ :=
  fun H locs ls r1 r2 r3 r4 r5 r6 r7 => lv_iconst hx hb hd rfl (k H locs ls r1 r2 r3 r4 r5 r6 (am_ok2 (am_ok32 hr) r7))
theorem am_bipush (hx : p.tables.exec = Jvm.exec) (hb : c.code = cc) {n : Int} (h1 : -128 ≤ n) (h2 : n ≤ 127) (hd : decode cc pc = .ok (.bipush n, 2)) (k : am_M p l e R s m args below meth c QQ w G cells slots nL (pc + 2) L ((0, n) :: S) σ) : am_M p l e R s m args below meth c QQ w G cells slots nL pc L S σ :=
  fun H locs ls r1 r2 r3 r4 r5 r6 r7 => lv_bipush hx hb hd (by
    rw [← Int32.toInt_inj, Int8.toInt_toInt32, am_w8, am_t32 (by unfold am_r32; omega)]
    unfold w8; rw [Int.bmod_def]; omega) (k H locs ls r1 r2 r3 r4 r5 r6 (am_ok2 (am_ok32 (by unfold am_r32; omega)) r7))
theorem am_sipush (hx : p.tables.exec = Jvm.exec) (hb : c.code = cc) {n : Int} (h1 : -32768 ≤ n) (h2 : n ≤ 32767) (hd : decode cc pc = .ok (.sipush n, 3)) (k : am_M p l e R s m args below meth c QQ w G cells slots nL (pc + 3) L ((0, n) :: S) σ) : am_M p l e R s m args below meth c QQ w G cells slots nL pc L S σ :=
  fun H locs ls r1 r2 r3 r4 r5 r6 r7 => lv_sipush hx hb hd (by
    rw [← Int32.toInt_inj, Int16.toInt_toInt32, Int16.toInt_ofInt, am_t32 (by unfold am_r32; omega), Int.bmod_def]; simp only [Int16.size]; omega) (k H locs ls r1 r2 r3 r4 r5 r6 (am_ok2 (am_ok32 (by unfold am_r32; omega)) r7))
theorem am_lconst (hx : p.tables.exec = Jvm.exec) (hb : c.code = cc) {n : Fin 2} (hd : decode cc pc = .ok (.lconst n, 1)) (k : am_M p l e R s m args below meth c QQ w G cells slots nL (pc + 1) L ((1, ((n : Nat) : Int)) :: S) σ) : am_M p l e R s m args below meth c QQ w G cells slots nL pc L S σ :=
  fun H locs ls r1 r2 r3 r4 r5 r6 r7 => lv_lconst hx hb hd (by rcases n with ⟨_ | _ | n, hn⟩ <;> first | rfl | omega) (k H locs ls r1 r2 r3 r4 r5 r6 (am_ok2 (am_ok64 (by have := n.2; unfold am_r64; omega)) r7))
theorem am_null (hx : p.tables.exec = Jvm.exec) (hb : c.code = cc) (hd : decode cc pc = .ok (.aconst_null, 1)) (k : am_M p l e R s m args below meth c QQ w G cells slots nL (pc + 1) L ((2, 0) :: S) σ) : am_M p l e R s m args below meth c QQ w G cells slots nL pc L S σ :=
  fun H locs ls r1 r2 r3 r4 r5 r6 r7 => lv_null hx hb hd (k H locs ls r1 r2 r3 r4 r5 r6 (am_ok2 (show (0 : Int) ≤ 0 by omega) r7))
theorem am_ldc (hx : p.tables.exec = Jvm.exec) (hb : c.code = cc) {own : String} {index : Nat} {n : Int} (hr : am_r32 n) (hown : s.vm.findClass own = some m.cls) (hc : (Jvm.Cond.constant own index (Int32.ofInt n)).before args s = true) (hd : decode cc pc = .ok (.ldc index, 2)) (k : am_M p l e R s m args below meth c QQ w G cells slots nL (pc + 2) L ((0, n) :: S) σ) : am_M p l e R s m args below meth c QQ w G cells slots nL pc L S σ :=
  fun H locs ls r1 r2 r3 r4 r5 r6 r7 => lv_ldc hx hb hown hc hd (k H locs ls r1 r2 r3 r4 r5 r6 (am_ok2 (am_ok32 hr) r7))
theorem am_ldcw (hx : p.tables.exec = Jvm.exec) (hb : c.code = cc) {own : String} {index : Nat} {n : Int} (hr : am_r32 n) (hown : s.vm.findClass own = some m.cls) (hc : (Jvm.Cond.constant own index (Int32.ofInt n)).before args s = true) (hd : decode cc pc = .ok (.ldc_w index, 3)) (k : am_M p l e R s m args below meth c QQ w G cells slots nL (pc + 3) L ((0, n) :: S) σ) : am_M p l e R s m args below meth c QQ w G cells slots nL pc L S σ :=
  fun H locs ls r1 r2 r3 r4 r5 r6 r7 => lv_ldcw hx hb hown hc hd (k H locs ls r1 r2 r3 r4 r5 r6 (am_ok2 (am_ok32 hr) r7))
theorem am_ldc2 (hx : p.tables.exec = Jvm.exec) (hb : c.code = cc) {own : String} {index : Nat} {n : Int} (hr : am_r64 n) (hown : s.vm.findClass own = some m.cls) (hc : (Jvm.Cond.constantLong own index (Int64.ofInt n)).before args s = true) (hd : decode cc pc = .ok (.ldc2_w index, 3)) (k : am_M p l e R s m args below meth c QQ w G cells slots nL (pc + 3) L ((1, n) :: S) σ) : am_M p l e R s m args below meth c QQ w G cells slots nL pc L S σ :=
  fun H locs ls r1 r2 r3 r4 r5 r6 r7 => lv_ldc2 hx hb hown hc hd (k H locs ls r1 r2 r3 r4 r5 r6 (am_ok2 (am_ok64 hr) r7))
theorem am_atL {ls : Array Slot} (h : lv_has ls nL (L.map (am_lv w.1))) {i : Nat} {v : AV} (hk : am_lk L i = some v) : ls[i]? = some (.val (am_val w.1 v)) :=
  h.2.2 (i, am_val w.1 v) (List.mem_map.mpr ⟨_, am_lk_mem hk, rfl⟩)
theorem am_iload (hx : p.tables.exec = Jvm.exec) (hb : c.code = cc) {i : Nat} {x : Int} (hk : am_lk L i = some (0, x)) (hd : decode cc pc = .ok (.iload i, 2)) (k : am_M p l e R s m args below meth c QQ w G cells slots nL (pc + 2) L ((0, x) :: S) σ) : am_M p l e R s m args below meth c QQ w G cells slots nL pc L S σ :=
  fun H locs ls r1 r2 r3 r4 r5 r6 r7 => lv_iload hx hb hd (am_atL r5 hk) (k H locs ls r1 r2 r3 r4 r5 r6 (am_ok2 (r6 _ (am_lk_mem hk)) r7))
theorem am_iload_n (hx : p.tables.exec = Jvm.exec) (hb : c.code = cc) {i : Fin 4} {x : Int} (hk : am_lk L i.val = some (0, x)) (hd : decode cc pc = .ok (.iload_n i, 1)) (k : am_M p l e R s m args below meth c QQ w G cells slots nL (pc + 1) L ((0, x) :: S) σ) : am_M p l e R s m args below meth c QQ w G cells slots nL pc L S σ :=
  fun H locs ls r1 r2 r3 r4 r5 r6 r7 => lv_iload_n hx hb hd rfl (am_atL r5 hk) (k H locs ls r1 r2 r3 r4 r5 r6 (am_ok2 (r6 _ (am_lk_mem hk)) r7))
theorem am_lload (hx : p.tables.exec = Jvm.exec) (hb : c.code = cc) {i : Nat} {x : Int} (hk : am_lk L i = some (1, x)) (hd : decode cc pc = .ok (.lload i, 2)) (k : am_M p l e R s m args below meth c QQ w G cells slots nL (pc + 2) L ((1, x) :: S) σ) : am_M p l e R s m args below meth c QQ w G cells slots nL pc L S σ :=
  fun H locs ls r1 r2 r3 r4 r5 r6 r7 => lv_lload hx hb hd (am_atL r5 hk) (k H locs ls r1 r2 r3 r4 r5 r6 (am_ok2 (r6 _ (am_lk_mem hk)) r7))
theorem am_lload_n (hx : p.tables.exec = Jvm.exec) (hb : c.code = cc) {i : Fin 4} {x : Int} (hk : am_lk L i.val = some (1, x)) (hd : decode cc pc = .ok (.lload_n i, 1)) (k : am_M p l e R s m args below meth c QQ w G cells slots nL (pc + 1) L ((1, x) :: S) σ) : am_M p l e R s m args below meth c QQ w G cells slots nL pc L S σ :=
  fun H locs ls r1 r2 r3 r4 r5 r6 r7 => lv_lload_n hx hb hd rfl (am_atL r5 hk) (k H locs ls r1 r2 r3 r4 r5 r6 (am_ok2 (r6 _ (am_lk_mem hk)) r7))
theorem am_aload (hx : p.tables.exec = Jvm.exec) (hb : c.code = cc) {i : Nat} {x : Int} (hk : am_lk L i = some (2, x)) (hd : decode cc pc = .ok (.aload i, 2)) (k : am_M p l e R s m args below meth c QQ w G cells slots nL (pc + 2) L ((2, x) :: S) σ) : am_M p l e R s m args below meth c QQ w G cells slots nL pc L S σ := by
  intro H locs ls r1 r2 r3 r4 r5 r6 r7
  have h1 := am_atL r5 hk
  have h2 := k H locs ls r1 r2 r3 r4 r5 r6 (am_ok2 (r6 _ (am_lk_mem hk)) r7)
  by_cases h : x = 0
  · subst h
    exact lv_aloadN hx hb hd h1 h2
  · rw [am_val2 _ h] at h1
    rw [List.map_cons, am_val2 _ h] at h2
    exact lv_aload hx hb hd h1 h2
theorem am_aload_n (hx : p.tables.exec = Jvm.exec) (hb : c.code = cc) {i : Fin 4} {x : Int} (hk : am_lk L i.val = some (2, x)) (hd : decode cc pc = .ok (.aload_n i, 1)) (k : am_M p l e R s m args below meth c QQ w G cells slots nL (pc + 1) L ((2, x) :: S) σ) : am_M p l e R s m args below meth c QQ w G cells slots nL pc L S σ := by
  intro H locs ls r1 r2 r3 r4 r5 r6 r7
  have h1 := am_atL r5 hk
  have h2 := k H locs ls r1 r2 r3 r4 r5 r6 (am_ok2 (r6 _ (am_lk_mem hk)) r7)
  by_cases h : x = 0
  · subst h
    exact lv_aload_nN hx hb hd rfl h1 h2
  · rw [am_val2 _ h] at h1
    rw [List.map_cons, am_val2 _ h] at h2
    exact lv_aload_n hx hb hd rfl h1 h2
theorem am_hd {v : AV} (h : ∀ u ∈ v :: S, am_ok u) : am_ok v := h v List.mem_cons_self
theorem am_tl {v : AV} (h : ∀ u ∈ v :: S, am_ok u) : ∀ u ∈ S, am_ok u := fun u hu => h u (List.mem_cons_of_mem _ hu)
theorem am_istore (hx : p.tables.exec = Jvm.exec) (hb : c.code = cc) {i : Nat} {x : Int} (hn : i < nL) (hd : decode cc pc = .ok (.istore i, 2)) (k : am_M p l e R s m args below meth c QQ w G cells slots nL (pc + 2) (am_st1 L i (0, x)) S σ) : am_M p l e R s m args below meth c QQ w G cells slots nL pc L ((0, x) :: S) σ :=
  fun H locs ls r1 r2 r3 r4 r5 r6 r7 => lv_istore hx hb hd r5 hn (am_st1_map w.1 L i (0, x)) (fun ls' h => k H locs ls' r1 r2 r3 r4 h (am_st1_ok r6 (am_hd r7)) (am_tl r7))
theorem am_istore_n (hx : p.tables.exec = Jvm.exec) (hb : c.code = cc) {i : Fin 4} {x : Int} (hn : i.val < nL) (hd : decode cc pc = .ok (.istore_n i, 1)) (k : am_M p l e R s m args below meth c QQ w G cells slots nL (pc + 1) (am_st1 L i.val (0, x)) S σ) : am_M p l e R s m args below meth c QQ w G cells slots nL pc L ((0, x) :: S) σ :=
  fun H locs ls r1 r2 r3 r4 r5 r6 r7 => lv_istore_n hx hb hd rfl r5 hn (am_st1_map w.1 L i.val (0, x)) (fun ls' h => k H locs ls' r1 r2 r3 r4 h (am_st1_ok r6 (am_hd r7)) (am_tl r7))
theorem am_lstore (hx : p.tables.exec = Jvm.exec) (hb : c.code = cc) {i : Nat} {x : Int} (hn : i + 1 < nL) (hd : decode cc pc = .ok (.lstore i, 2)) (k : am_M p l e R s m args below meth c QQ w G cells slots nL (pc + 2) (am_st2 L i (1, x)) S σ) : am_M p l e R s m args below meth c QQ w G cells slots nL pc L ((1, x) :: S) σ :=
  fun H locs ls r1 r2 r3 r4 r5 r6 r7 => lv_lstore hx hb hd r5 hn (am_st2_map w.1 L i (1, x)) (fun ls' h => k H locs ls' r1 r2 r3 r4 h (am_st2_ok r6 (am_hd r7)) (am_tl r7))
theorem am_lstore_n (hx : p.tables.exec = Jvm.exec) (hb : c.code = cc) {i : Fin 4} {x : Int} (hn : i.val + 1 < nL) (hd : decode cc pc = .ok (.lstore_n i, 1)) (k : am_M p l e R s m args below meth c QQ w G cells slots nL (pc + 1) (am_st2 L i.val (1, x)) S σ) : am_M p l e R s m args below meth c QQ w G cells slots nL pc L ((1, x) :: S) σ :=
  fun H locs ls r1 r2 r3 r4 r5 r6 r7 => lv_lstore_n hx hb hd rfl r5 hn (am_st2_map w.1 L i.val (1, x)) (fun ls' h => k H locs ls' r1 r2 r3 r4 h (am_st2_ok r6 (am_hd r7)) (am_tl r7))
theorem am_astore (hx : p.tables.exec = Jvm.exec) (hb : c.code = cc) {i : Nat} {x : Int} (hn : i < nL) (hd : decode cc pc = .ok (.astore i, 2)) (k : am_M p l e R s m args below meth c QQ w G cells slots nL (pc + 2) (am_st1 L i (2, x)) S σ) : am_M p l e R s m args below meth c QQ w G cells slots nL pc L ((2, x) :: S) σ := by
  intro H locs ls r1 r2 r3 r4 r5 r6 r7
  have e := am_st1_map w.1 L i (2, x)
  rw [List.map_cons]
  by_cases h : x = 0
  · subst h
    exact lv_astoreN hx hb hd r5 hn e (fun ls' h => k H locs ls' r1 r2 r3 r4 h (am_st1_ok r6 (am_hd r7)) (am_tl r7))
  · rw [am_val2 _ h] at e ⊢
    exact lv_astore hx hb hd r5 hn e (fun ls' h => k H locs ls' r1 r2 r3 r4 h (am_st1_ok r6 (am_hd r7)) (am_tl r7))
theorem am_astore_n (hx : p.tables.exec = Jvm.exec) (hb : c.code = cc) {i : Fin 4} {x : Int} (hn : i.val < nL) (hd : decode cc pc = .ok (.astore_n i, 1)) (k : am_M p l e R s m args below meth c QQ w G cells slots nL (pc + 1) (am_st1 L i.val (2, x)) S σ) : am_M p l e R s m args below meth c QQ w G cells slots nL pc L ((2, x) :: S) σ := by
  intro H locs ls r1 r2 r3 r4 r5 r6 r7
  have e := am_st1_map w.1 L i.val (2, x)
  rw [List.map_cons]
  by_cases h : x = 0
  · subst h
    exact lv_astore_nN hx hb hd rfl r5 hn e (fun ls' h => k H locs ls' r1 r2 r3 r4 h (am_st1_ok r6 (am_hd r7)) (am_tl r7))
  · rw [am_val2 _ h] at e ⊢
    exact lv_astore_n hx hb hd rfl r5 hn e (fun ls' h => k H locs ls' r1 r2 r3 r4 h (am_st1_ok r6 (am_hd r7)) (am_tl r7))
theorem am_iinc (hx : p.tables.exec = Jvm.exec) (hb : c.code = cc) {i : Nat} {n x : Int} (hn : i < nL) (hk : am_lk L i = some (0, x)) (hr : am_r32 (x + n)) (hd : decode cc pc = .ok (.iinc i n, 3)) (k : am_M p l e R s m args below meth c QQ w G cells slots nL (pc + 3) (am_st1 L i (0, x + n)) S σ) : am_M p l e R s m args below meth c QQ w G cells slots nL pc L S σ := by
  intro H locs ls r1 r2 r3 r4 r5 r6 r7
  obtain ⟨j, hj, e⟩ := List.getElem_of_mem (am_lk_mem hk)
  have e2 : (L.map (am_lv w.1))[j]? = some (i, .int (Int32.ofInt x)) := by
    rw [List.getElem?_map, List.getElem?_eq_getElem hj, e]; rfl
  exact lv_iinc hx hb hd r5 (k := j) e2 (by rw [← Int32.ofInt_add]) hn (am_st1_map w.1 L i (0, x + n)) (fun ls' h => k H locs ls' r1 r2 r3 r4 h (am_st1_ok r6 (am_ok32 hr)) r7)
theorem am_iadd (hx : p.tables.exec = Jvm.exec) (hb : c.code = cc) {x y : Int} (hr : am_r32 (x + y)) (hd : decode cc pc = .ok (.iadd, 1)) (k : am_M p l e R s m args below meth c QQ w G cells slots nL (pc + 1) L ((0, x + y) :: S) σ) : am_M p l e R s m args below meth c QQ w G cells slots nL pc L ((0, y) :: (0, x) :: S) σ := by
  intro H locs ls r1 r2 r3 r4 r5 r6 r7
  have h := k H locs ls r1 r2 r3 r4 r5 r6 (am_ok2 (am_ok32 hr) (am_tl (am_tl r7)))
  rw [List.map_cons, am_val0, Int32.ofInt_add] at h
  exact lv_iadd hx hb hd h
theorem am_isub (hx : p.tables.exec = Jvm.exec) (hb : c.code = cc) {x y : Int} (hr : am_r32 (x - y)) (hd : decode cc pc = .ok (.isub, 1)) (k : am_M p l e R s m args below meth c QQ w G cells slots nL (pc + 1) L ((0, x - y) :: S) σ) : am_M p l e R s m args below meth c QQ w G cells slots nL pc L ((0, y) :: (0, x) :: S) σ := by
  intro H locs ls r1 r2 r3 r4 r5 r6 r7
  have h := k H locs ls r1 r2 r3 r4 r5 r6 (am_ok2 (am_ok32 hr) (am_tl (am_tl r7)))
  rw [List.map_cons, am_val0, Int32.ofInt_sub] at h
  exact lv_isub hx hb hd h
theorem am_imul (hx : p.tables.exec = Jvm.exec) (hb : c.code = cc) {x y : Int} (hr : am_r32 (x * y)) (hd : decode cc pc = .ok (.imul, 1)) (k : am_M p l e R s m args below meth c QQ w G cells slots nL (pc + 1) L ((0, x * y) :: S) σ) : am_M p l e R s m args below meth c QQ w G cells slots nL pc L ((0, y) :: (0, x) :: S) σ := by
  intro H locs ls r1 r2 r3 r4 r5 r6 r7
  have h := k H locs ls r1 r2 r3 r4 r5 r6 (am_ok2 (am_ok32 hr) (am_tl (am_tl r7)))
  rw [List.map_cons, am_val0, Int32.ofInt_mul] at h
  exact lv_imul hx hb hd h
theorem am_idiv (hx : p.tables.exec = Jvm.exec) (hb : c.code = cc) {x y : Int} (hy : 0 < y) (hd : decode cc pc = .ok (.idiv, 1)) (k : am_M p l e R s m args below meth c QQ w G cells slots nL (pc + 1) L ((0, x.tdiv y) :: S) σ) : am_M p l e R s m args below meth c QQ w G cells slots nL pc L ((0, y) :: (0, x) :: S) σ := by
  intro H locs ls r1 r2 r3 r4 r5 r6 r7
  have ox : am_r32 x := am_hd (am_tl r7)
  have oy : am_r32 y := am_hd r7
  have e : (Int32.ofInt x / Int32.ofInt y) = Int32.ofInt (x.tdiv y) := by
    rw [← Int32.toInt_inj, Int32.toInt_div, am_t32 ox, am_t32 oy, am_w32]; rfl
  have hr : am_r32 (x.tdiv y) := by
    unfold am_r32 at *
    have h1 := Int.natAbs_tdiv x y
    have h2 : x.natAbs / y.natAbs ≤ x.natAbs := Nat.div_le_self _ _
    have h3 : (x.tdiv y).natAbs ≤ x.natAbs := by rw [h1]; exact h2
    have h4 : 0 ≤ x → 0 ≤ x.tdiv y := fun h => Int.tdiv_nonneg h (Int.le_of_lt hy)
    have h5 := Int.neg_tdiv x y
    have h6 : x ≤ 0 → 0 ≤ (-x).tdiv y := fun h => Int.tdiv_nonneg (by omega) (Int.le_of_lt hy)
    omega
  have h := k H locs ls r1 r2 r3 r4 r5 r6 (am_ok2 (am_ok32 hr) (am_tl (am_tl r7)))
  rw [List.map_cons, am_val0, ← e] at h
  refine lv_idiv hx hb hd (fun q => ?_) h
  rw [← Int32.toInt_inj, am_t32 oy, Int32.toInt_zero] at q
  omega
theorem am_ibin {f : Int → Int → Int} {F : Int32 → Int32 → Int32} (hf : ∀ x y, f x y = (F (Int32.ofInt x) (Int32.ofInt y)).toInt) {x y : Int} (k : am_M p l e R s m args below meth c QQ w G cells slots nL (pc + 1) L ((0, f x y) :: S) σ)
    (row : ∀ {H : Heap} {locs : List Loc} {ls : Array Slot}, W p l e R s m args below meth c H locs cells slots QQ (F0 m (pc + 1) ls (.int (F (Int32.ofInt x) (Int32.ofInt y)) :: S.map (am_val w.1))) → W p l e R s m args below meth c H locs cells slots QQ (F0 m pc ls (.int (Int32.ofInt y) :: .int (Int32.ofInt x) :: S.map (am_val w.1)))) : am_M p l e R s m args below meth c QQ w G cells slots nL pc L ((0, y) :: (0, x) :: S) σ := by
  intro H locs ls r1 r2 r3 r4 r5 r6 r7
  have h := k H locs ls r1 r2 r3 r4 r5 r6 (am_ok2 (am_ok32 (by rw [hf]; exact am_o32 _)) (am_tl (am_tl r7)))
  rw [List.map_cons, am_val0, hf, Int32.ofInt_toInt] at h
  exact row h
theorem am_iand (hx : p.tables.exec = Jvm.exec) (hb : c.code = cc) {x y : Int} (hd : decode cc pc = .ok (.iand, 1)) (k : am_M p l e R s m args below meth c QQ w G cells slots nL (pc + 1) L ((0, i_and x y) :: S) σ) : am_M p l e R s m args below meth c QQ w G cells slots nL pc L ((0, y) :: (0, x) :: S) σ := am_ibin (fun _ _ => rfl) k (fun h => lv_iand hx hb hd h)
theorem am_ior (hx : p.tables.exec = Jvm.exec) (hb : c.code = cc) {x y : Int} (hd : decode cc pc = .ok (.ior, 1)) (k : am_M p l e R s m args below meth c QQ w G cells slots nL (pc + 1) L ((0, i_or x y) :: S) σ) : am_M p l e R s m args below meth c QQ w G cells slots nL pc L ((0, y) :: (0, x) :: S) σ := am_ibin (fun _ _ => rfl) k (fun h => lv_ior hx hb hd h)
theorem am_ixor (hx : p.tables.exec = Jvm.exec) (hb : c.code = cc) {x y : Int} (hd : decode cc pc = .ok (.ixor, 1)) (k : am_M p l e R s m args below meth c QQ w G cells slots nL (pc + 1) L ((0, i_xor x y) :: S) σ) : am_M p l e R s m args below meth c QQ w G cells slots nL pc L ((0, y) :: (0, x) :: S) σ := am_ibin (fun _ _ => rfl) k (fun h => lv_ixor hx hb hd h)
theorem am_ishl (hx : p.tables.exec = Jvm.exec) (hb : c.code = cc) {x y : Int} (hd : decode cc pc = .ok (.ishl, 1)) (k : am_M p l e R s m args below meth c QQ w G cells slots nL (pc + 1) L ((0, i_shl x y) :: S) σ) : am_M p l e R s m args below meth c QQ w G cells slots nL pc L ((0, y) :: (0, x) :: S) σ := am_ibin (F := fun a b => a <<< (b &&& 31)) (fun _ _ => rfl) k (fun h => lv_ishl hx hb hd h)
theorem am_ishr (hx : p.tables.exec = Jvm.exec) (hb : c.code = cc) {x y : Int} (hd : decode cc pc = .ok (.ishr, 1)) (k : am_M p l e R s m args below meth c QQ w G cells slots nL (pc + 1) L ((0, i_shr x y) :: S) σ) : am_M p l e R s m args below meth c QQ w G cells slots nL pc L ((0, y) :: (0, x) :: S) σ := am_ibin (F := fun a b => a >>> (b &&& 31)) (fun _ _ => rfl) k (fun h => lv_ishr hx hb hd h)
theorem am_irem (hx : p.tables.exec = Jvm.exec) (hb : c.code = cc) {x y : Int} (hy : 0 < y) (hd : decode cc pc = .ok (.irem, 1)) (k : am_M p l e R s m args below meth c QQ w G cells slots nL (pc + 1) L ((0, x.tmod y) :: S) σ) : am_M p l e R s m args below meth c QQ w G cells slots nL pc L ((0, y) :: (0, x) :: S) σ := by
  intro H locs ls r1 r2 r3 r4 r5 r6 r7
  have ox : am_r32 x := am_hd (am_tl r7)
  have oy : am_r32 y := am_hd r7
  have h1 := Int.tmod_def x y
  have h2 : (x.tmod y).natAbs < y.natAbs := by rw [Int.natAbs_tmod]; exact Nat.mod_lt _ (by omega)
  have hr : am_r32 (x.tmod y) := by unfold am_r32 at *; omega
  have e : (Int32.ofInt x - Int32.ofInt x / Int32.ofInt y * Int32.ofInt y) = Int32.ofInt (x.tmod y) := by
    have e1 : (Int32.ofInt x / Int32.ofInt y) = Int32.ofInt (x.tdiv y) := by
      rw [← Int32.toInt_inj, Int32.toInt_div, am_t32 ox, am_t32 oy, am_w32]; rfl
    rw [e1, ← Int32.ofInt_mul, ← Int32.ofInt_sub, h1, Int.mul_comm]
  have h := k H locs ls r1 r2 r3 r4 r5 r6 (am_ok2 (am_ok32 hr) (am_tl (am_tl r7)))
  rw [List.map_cons, am_val0, ← e] at h
  refine lv_irem hx hb hd (fun q => ?_) h
  rw [← Int32.toInt_inj, am_t32 oy, Int32.toInt_zero] at q
  omega
theorem am_lbin {f : Int → Int → Int} {F : Int64 → Int64 → Int64} (hf : ∀ x y, f x y = (F (Int64.ofInt x) (Int64.ofInt y)).toInt) {x y : Int} (k : am_M p l e R s m args below meth c QQ w G cells slots nL (pc + 1) L ((1, f x y) :: S) σ)
    (row : ∀ {H : Heap} {locs : List Loc} {ls : Array Slot}, W p l e R s m args below meth c H locs cells slots QQ (F0 m (pc + 1) ls (.long (F (Int64.ofInt x) (Int64.ofInt y)) :: S.map (am_val w.1))) → W p l e R s m args below meth c H locs cells slots QQ (F0 m pc ls (.long (Int64.ofInt y) :: .long (Int64.ofInt x) :: S.map (am_val w.1)))) : am_M p l e R s m args below meth c QQ w G cells slots nL pc L ((1, y) :: (1, x) :: S) σ := by
  intro H locs ls r1 r2 r3 r4 r5 r6 r7
  have h := k H locs ls r1 r2 r3 r4 r5 r6 (am_ok2 (am_ok64 (by rw [hf]; exact am_o64 _)) (am_tl (am_tl r7)))
  rw [List.map_cons, am_val1, hf, Int64.ofInt_toInt] at h
  exact row h
theorem am_ladd (hx : p.tables.exec = Jvm.exec) (hb : c.code = cc) {x y : Int} (hd : decode cc pc = .ok (.ladd, 1)) (k : am_M p l e R s m args below meth c QQ w G cells slots nL (pc + 1) L ((1, w64 (x + y)) :: S) σ) : am_M p l e R s m args below meth c QQ w G cells slots nL pc L ((1, y) :: (1, x) :: S) σ := am_lbin (f := fun x y => w64 (x + y)) (F := fun a b => a + b) (fun x y => by rw [← Int64.ofInt_add, am_w64]) k (fun h => lv_ladd hx hb hd h)
theorem am_lsub (hx : p.tables.exec = Jvm.exec) (hb : c.code = cc) {x y : Int} (hd : decode cc pc = .ok (.lsub, 1)) (k : am_M p l e R s m args below meth c QQ w G cells slots nL (pc + 1) L ((1, w64 (x - y)) :: S) σ) : am_M p l e R s m args below meth c QQ w G cells slots nL pc L ((1, y) :: (1, x) :: S) σ := am_lbin (f := fun x y => w64 (x - y)) (F := fun a b => a - b) (fun x y => by rw [← Int64.ofInt_sub, am_w64]) k (fun h => lv_lsub hx hb hd h)
theorem am_lmul (hx : p.tables.exec = Jvm.exec) (hb : c.code = cc) {x y : Int} (hd : decode cc pc = .ok (.lmul, 1)) (k : am_M p l e R s m args below meth c QQ w G cells slots nL (pc + 1) L ((1, w64 (x * y)) :: S) σ) : am_M p l e R s m args below meth c QQ w G cells slots nL pc L ((1, y) :: (1, x) :: S) σ := am_lbin (f := fun x y => w64 (x * y)) (F := fun a b => a * b) (fun x y => by rw [← Int64.ofInt_mul, am_w64]) k (fun h => lv_lmul hx hb hd h)
theorem am_land (hx : p.tables.exec = Jvm.exec) (hb : c.code = cc) {x y : Int} (hd : decode cc pc = .ok (.land, 1)) (k : am_M p l e R s m args below meth c QQ w G cells slots nL (pc + 1) L ((1, l_and x y) :: S) σ) : am_M p l e R s m args below meth c QQ w G cells slots nL pc L ((1, y) :: (1, x) :: S) σ := am_lbin (F := fun a b => a &&& b) (fun _ _ => rfl) k (fun h => lv_land hx hb hd h)
theorem am_lor (hx : p.tables.exec = Jvm.exec) (hb : c.code = cc) {x y : Int} (hd : decode cc pc = .ok (.lor, 1)) (k : am_M p l e R s m args below meth c QQ w G cells slots nL (pc + 1) L ((1, l_or x y) :: S) σ) : am_M p l e R s m args below meth c QQ w G cells slots nL pc L ((1, y) :: (1, x) :: S) σ := am_lbin (F := fun a b => a ||| b) (fun _ _ => rfl) k (fun h => lv_lor hx hb hd h)
theorem am_lxor (hx : p.tables.exec = Jvm.exec) (hb : c.code = cc) {x y : Int} (hd : decode cc pc = .ok (.lxor, 1)) (k : am_M p l e R s m args below meth c QQ w G cells slots nL (pc + 1) L ((1, l_xor x y) :: S) σ) : am_M p l e R s m args below meth c QQ w G cells slots nL pc L ((1, y) :: (1, x) :: S) σ := am_lbin (F := fun a b => a ^^^ b) (fun _ _ => rfl) k (fun h => lv_lxor hx hb hd h)
end AMI
