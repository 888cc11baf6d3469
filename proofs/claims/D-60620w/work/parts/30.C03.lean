/-! methods: printed by gen/all.py -/
def c_Pool_letterOf : List aE := [(0, 1, .aload_n 0, 1, 0, 0, []), (1, 0, .aload_n 0, 1, 0, 0, []), (2, 0, .getfield 40, 3, 7, 11, [2, 0, 1088]), (5, 0, .iload_n 1, 1, 0, 0, []), (6, 0, .iaload, 1, 0, 0, []), (7, 0, .i2l, 1, 0, 0, []), (8, 0, .lload_n 2, 1, 0, 0, []), (9, 0, .ladd, 1, 0, 0, []), (10, 0, .iconst 1, 1, 0, 0, []), (11, 0, .invokevirtual 45, 3, 11, 7, [3171]), (14, 0, .l2i, 1, 0, 0, []), (15, 0, .ireturn, 1, 0, 0, [])]
def m_Pool_letterOf : List aT := [(0, [(0, 2), (1, 0), (2, 1)], [])]
def B_Pool_letterOf_0 (X : Nat → List Int → AMem → Prop) (Q : Int → AMem → Prop) (x0 x1 x2 : Int) (σ : AMem) : Prop :=
  (if ly_k x0 = 27 then (if ly_k (am_rd GR σ x0 11) = 1 then 0 ≤ x1 ∧ x1 < ly_l (am_rd GR σ x0 11) ∧ (if ly_k x0 = 27 then T_Part_number [x0, (w64 ((σ (am_rd GR σ x0 11) x1) + x2)), 1] σ (fun r1 σ2 => Q (w32 r1) σ2) else False) else False) else False)
def B_Pool_letterOf : (Nat → List Int → AMem → Prop) → (Int → AMem → Prop) → Nat → List Int → AMem → Prop := fun X Q j v σ => am_sel [(am_v3 (fun x0 x1 x2 σ => B_Pool_letterOf_0 X Q x0 x1 x2 σ))] j v σ
def T_Pool_letterOf : List Int → AMem → (Int → AMem → Prop) → Prop := am_T B_Pool_letterOf
abbrev y_Pool_letterOf : MethodName := ⟨"LinkHouse$Pool", "letterOf", "(LLinkHouse$Part;IJ)I"⟩
def a_Pool_letterOf : AC := (48, (y_Pool_letterOf, prog_7_method_5_code, 4, (Option.some Jvm.ClassFile.FieldType.int)), [2, 0, 1], 0, true, { frames := 1, cells := 0, slots := 0, locals := 34 }, T_Pool_letterOf)
set_option maxRecDepth 100000 in
theorem ms_Pool_letterOf : am_MSp a_Pool_letterOf := am_ms_s 3170 6 3169 rfl (by decide +kernel)
abbrev k_Pool_letterOf : List AC := [a_Part_number]
set_option maxRecDepth 100000 in
theorem s_Pool_letterOf : (am_chkR { frames := 1, cells := 0, slots := 0, locals := 34 } k_Pool_letterOf && am_chkN c_Pool_letterOf { frames := 1, cells := 0, slots := 0, locals := 34 } && c_Pool_letterOf.all (am_chk "LinkHouse$Pool" prog_7_method_5_code 4 (Option.some Jvm.ClassFile.FieldType.int) k_Pool_letterOf) && c_Pool_letterOf.all (am_chkL m_Pool_letterOf) && decide (m_Pool_letterOf[0]? = some (0, am_argp 0 [2, 0, 1], [])) && decide (am_argn [2, 0, 1] ≤ 4)) = true := by decide +kernel
set_option maxHeartbeats 150000 in
set_option maxRecDepth 100000 in
theorem h_Pool_letterOf : ∀ X Q j v σ, B_Pool_letterOf X Q j v σ → am_at GR k_Pool_letterOf c_Pool_letterOf m_Pool_letterOf X Q 20 j v σ := fun X Q => am_sel_all (P := fun j v σ => am_at GR k_Pool_letterOf c_Pool_letterOf m_Pool_letterOf X Q 20 j v σ) (⟨(am_v3_of (fun x0 x1 x2 σ h => h)), trivial⟩)
set_option maxRecDepth 100000 in
theorem S_Pool_letterOf (l : Launch) (w : AW) : am_S l w GR a_Pool_letterOf := am_sound (rt := 0) (cal := k_Pool_letterOf) 48 y_Pool_letterOf prog_7_method_5_code 4 (Option.some Jvm.ClassFile.FieldType.int) [2, 0, 1] true { frames := 1, cells := 0, slots := 0, locals := 34 } B_Pool_letterOf "LinkHouse$Pool" c_Pool_letterOf m_Pool_letterOf 20 ms_Pool_letterOf (by decide +kernel) rfl rfl (am_cal (S_Part_number l w) (fun _ h => absurd h List.not_mem_nil)) s_Pool_letterOf h_Pool_letterOf
set_option maxRecDepth 100000 in
theorem of_Pool_letterOf {Q : Int → AMem → Prop} {x0 x1 x2 : Int} {σ : AMem} (h : ∀ X : Nat → List Int → AMem → Prop, (∀ (x0 x1 x2 : Int) (σ : AMem), B_Pool_letterOf_0 X Q x0 x1 x2 σ → X 0 [x0, x1, x2] σ) → X 0 [x0, x1, x2] σ) : T_Pool_letterOf [x0, x1, x2] σ Q := fun X hX => h X (fun x0 x1 x2 σ h => hX 0 [x0, x1, x2] σ h)
set_option maxRecDepth 100000 in
theorem iff_Pool_letterOf {Q : Int → AMem → Prop} {X : Nat → List Int → AMem → Prop} {x0 x1 x2 : Int} {σ : AMem} : T_Pool_letterOf [x0, x1, x2] σ Q ↔ B_Pool_letterOf_0 X Q x0 x1 x2 σ := ⟨fun h => h (fun j v σ => B_Pool_letterOf X Q j v σ) (fun _ _ _ q => q), fun h _ hX => hX 0 _ _ h⟩
def c_Pool_endOf : List aE := [(0, 1, .lload_n 2, 1, 0, 0, []), (1, 0, .lstore 4, 2, 0, 0, []), (3, 2, .aload_n 0, 1, 0, 0, []), (4, 0, .iload_n 1, 1, 0, 0, []), (5, 0, .lload 4, 2, 0, 0, []), (7, 0, .invokestatic 49, 3, 48, 0, [3168]), (10, 0, .ifCond .eq 12, 3, 0, 0, []), (13, 0, .lload 4, 2, 0, 0, []), (15, 0, .lconst 1, 1, 0, 0, []), (16, 0, .ladd, 1, 0, 0, []), (17, 0, .lstore 4, 2, 0, 0, []), (19, 0, .goto (-16), 3, 0, 0, []), (22, 0, .lload 4, 2, 0, 0, []), (24, 0, .lreturn, 1, 0, 0, [])]
def m_Pool_endOf : List aT := [(0, [(0, 2), (1, 0), (2, 1)], []), (3, [(0, 2), (1, 0), (4, 1)], [])]
def B_Pool_endOf_0 (X : Nat → List Int → AMem → Prop) (Q : Int → AMem → Prop) (x0 x1 x2 : Int) (σ : AMem) : Prop :=
  X 1 [x0, x1, x2] σ
def B_Pool_endOf_1 (X : Nat → List Int → AMem → Prop) (Q : Int → AMem → Prop) (x0 x1 x4 : Int) (σ : AMem) : Prop :=
  T_Pool_letterOf [x0, x1, x4] σ (fun r1 σ2 => (if r1 = 0 then
  Q x4 σ2
  else
  X 1 [x0, x1, (w64 (x4 + 1))] σ2))
def B_Pool_endOf : (Nat → List Int → AMem → Prop) → (Int → AMem → Prop) → Nat → List Int → AMem → Prop := fun X Q j v σ => am_sel [(am_v3 (fun x0 x1 x2 σ => B_Pool_endOf_0 X Q x0 x1 x2 σ)), (am_v3 (fun x0 x1 x4 σ => B_Pool_endOf_1 X Q x0 x1 x4 σ))] j v σ
def T_Pool_endOf : List Int → AMem → (Int → AMem → Prop) → Prop := am_T B_Pool_endOf
abbrev y_Pool_endOf : MethodName := ⟨"LinkHouse$Pool", "endOf", "(LLinkHouse$Part;IJ)J"⟩
def a_Pool_endOf : AC := (49, (y_Pool_endOf, prog_7_method_6_code, 6, (Option.some Jvm.ClassFile.FieldType.long)), [2, 0, 1], 1, true, { frames := 2, cells := 0, slots := 0, locals := 65 }, T_Pool_endOf)
set_option maxRecDepth 100000 in
theorem ms_Pool_endOf : am_MSp a_Pool_endOf := am_ms_s 3167 6 3166 rfl (by decide +kernel)
abbrev k_Pool_endOf : List AC := [a_Pool_letterOf]
set_option maxRecDepth 100000 in
theorem s_Pool_endOf : (am_chkR { frames := 2, cells := 0, slots := 0, locals := 65 } k_Pool_endOf && am_chkN c_Pool_endOf { frames := 2, cells := 0, slots := 0, locals := 65 } && c_Pool_endOf.all (am_chk "LinkHouse$Pool" prog_7_method_6_code 6 (Option.some Jvm.ClassFile.FieldType.long) k_Pool_endOf) && c_Pool_endOf.all (am_chkL m_Pool_endOf) && decide (m_Pool_endOf[0]? = some (0, am_argp 0 [2, 0, 1], [])) && decide (am_argn [2, 0, 1] ≤ 6)) = true := by decide +kernel
set_option maxHeartbeats 150000 in
set_option maxRecDepth 100000 in
theorem h_Pool_endOf : ∀ X Q j v σ, B_Pool_endOf X Q j v σ → am_at GR k_Pool_endOf c_Pool_endOf m_Pool_endOf X Q 20 j v σ := fun X Q => am_sel_all (P := fun j v σ => am_at GR k_Pool_endOf c_Pool_endOf m_Pool_endOf X Q 20 j v σ) (⟨(am_v3_of (fun x0 x1 x2 σ h => h)), ⟨(am_v3_of (fun x0 x1 x4 σ h => h)), trivial⟩⟩)
set_option maxRecDepth 100000 in
theorem S_Pool_endOf (l : Launch) (w : AW) : am_S l w GR a_Pool_endOf := am_sound (rt := 1) (cal := k_Pool_endOf) 49 y_Pool_endOf prog_7_method_6_code 6 (Option.some Jvm.ClassFile.FieldType.long) [2, 0, 1] true { frames := 2, cells := 0, slots := 0, locals := 65 } B_Pool_endOf "LinkHouse$Pool" c_Pool_endOf m_Pool_endOf 20 ms_Pool_endOf (by decide +kernel) rfl rfl (am_cal (S_Pool_letterOf l w) (fun _ h => absurd h List.not_mem_nil)) s_Pool_endOf h_Pool_endOf
set_option maxRecDepth 100000 in
theorem of_Pool_endOf {Q : Int → AMem → Prop} {x0 x1 x2 : Int} {σ : AMem} (h : ∀ X : Nat → List Int → AMem → Prop, (∀ (x0 x1 x2 : Int) (σ : AMem), B_Pool_endOf_0 X Q x0 x1 x2 σ → X 0 [x0, x1, x2] σ) → (∀ (x0 x1 x4 : Int) (σ : AMem), B_Pool_endOf_1 X Q x0 x1 x4 σ → X 1 [x0, x1, x4] σ) → X 0 [x0, x1, x2] σ) : T_Pool_endOf [x0, x1, x2] σ Q := fun X hX => h X (fun x0 x1 x2 σ h => hX 0 [x0, x1, x2] σ h) (fun x0 x1 x4 σ h => hX 1 [x0, x1, x4] σ h)
def c_Pool_find : List aE := [(0, 1, .aload_n 0, 1, 0, 0, []), (1, 0, .getfield 12, 3, 5, 0, [2, 0, 1019]), (4, 0, .iload_n 1, 1, 0, 0, []), (5, 0, .iaload, 1, 0, 0, []), (6, 0, .istore_n 3, 1, 0, 0, []), (7, 2, .iload_n 3, 1, 0, 0, []), (8, 0, .ifCond .lt 24, 3, 0, 0, []), (11, 0, .aload_n 0, 1, 0, 0, []), (12, 0, .getfield 22, 3, 5, 3, [2, 0, 1022]), (15, 0, .iload_n 3, 1, 0, 0, []), (16, 0, .baload, 1, 2, 0, []), (17, 0, .iload_n 2, 1, 0, 0, []), (18, 0, .i2b, 1, 0, 0, []), (19, 0, .if_icmp .eq 13, 3, 0, 0, []), (22, 0, .aload_n 0, 1, 0, 0, []), (23, 0, .getfield 16, 3, 5, 1, [2, 0, 1020]), (26, 0, .iload_n 3, 1, 0, 0, []), (27, 0, .iaload, 1, 0, 0, []), (28, 0, .istore_n 3, 1, 0, 0, []), (29, 0, .goto (-22), 3, 0, 0, []), (32, 0, .iload_n 3, 1, 0, 0, []), (33, 0, .ireturn, 1, 0, 0, [])]
def m_Pool_find : List aT := [(0, [(0, 2), (1, 0), (2, 0)], []), (7, [(0, 2), (2, 0), (3, 0)], [])]
def B_Pool_find_0 (X : Nat → List Int → AMem → Prop) (Q : Int → AMem → Prop) (x1 x2 : Int) (σ : AMem) : Prop :=
  0 ≤ x1 ∧ x1 < 65544 ∧ X 1 [8340, x2, (σ 8341 x1)] σ
def B_Pool_find_1 (X : Nat → List Int → AMem → Prop) (Q : Int → AMem → Prop) (x2 x3 : Int) (σ : AMem) : Prop :=
  (if x3 < 0 then
  Q x3 σ
  else
  0 ≤ x3 ∧ x3 < 65544 ∧ (if (σ 8344 x3) = (w8 x2) then
    Q x3 σ
    else
    0 ≤ x3 ∧ x3 < 65544 ∧ X 1 [8340, x2, (σ 8342 x3)] σ))
def B_Pool_find : (Nat → List Int → AMem → Prop) → (Int → AMem → Prop) → Nat → List Int → AMem → Prop := fun X Q j v σ => am_sel [(am_v3 (fun t x1 x2 σ => if t = 8340 then B_Pool_find_0 X Q x1 x2 σ else False)), (am_v3 (fun t x2 x3 σ => if t = 8340 then B_Pool_find_1 X Q x2 x3 σ else False))] j v σ
def T_Pool_find : List Int → AMem → (Int → AMem → Prop) → Prop := am_T B_Pool_find
abbrev y_Pool_find : MethodName := ⟨"LinkHouse$Pool", "find", "(II)I"⟩
def a_Pool_find : AC := (50, (y_Pool_find, prog_7_method_4_code, 4, (Option.some Jvm.ClassFile.FieldType.int)), [2, 0, 0], 0, false, { frames := 0, cells := 0, slots := 0, locals := 0 }, T_Pool_find)
set_option maxRecDepth 100000 in
theorem ms_Pool_find : am_MSp a_Pool_find := am_ms_v 3179 6 3178 101004 5 rfl (by decide +kernel)
abbrev k_Pool_find : List AC := []
set_option maxRecDepth 100000 in
theorem s_Pool_find : (am_chkR { frames := 0, cells := 0, slots := 0, locals := 0 } k_Pool_find && am_chkN c_Pool_find { frames := 0, cells := 0, slots := 0, locals := 0 } && c_Pool_find.all (am_chk "LinkHouse$Pool" prog_7_method_4_code 4 (Option.some Jvm.ClassFile.FieldType.int) k_Pool_find) && c_Pool_find.all (am_chkL m_Pool_find) && decide (m_Pool_find[0]? = some (0, am_argp 0 [2, 0, 0], [])) && decide (am_argn [2, 0, 0] ≤ 4)) = true := by decide +kernel
set_option maxHeartbeats 150000 in
set_option maxRecDepth 100000 in
theorem h_Pool_find : ∀ X Q j v σ, B_Pool_find X Q j v σ → am_at GR k_Pool_find c_Pool_find m_Pool_find X Q 27 j v σ := fun X Q => am_sel_all (P := fun j v σ => am_at GR k_Pool_find c_Pool_find m_Pool_find X Q 27 j v σ) (⟨(am_v3_of (fun t x1 x2 σ h => am_tk (fun e => by subst e; exact fun h => h) h)), ⟨(am_v3_of (fun t x2 x3 σ h => am_tk (fun e => by subst e; exact fun h => h) h)), trivial⟩⟩)
set_option maxRecDepth 100000 in
theorem S_Pool_find (l : Launch) (w : AW) : am_S l w GR a_Pool_find := am_sound (rt := 0) (cal := k_Pool_find) 50 y_Pool_find prog_7_method_4_code 4 (Option.some Jvm.ClassFile.FieldType.int) [2, 0, 0] false { frames := 0, cells := 0, slots := 0, locals := 0 } B_Pool_find "LinkHouse$Pool" c_Pool_find m_Pool_find 27 ms_Pool_find (by decide +kernel) rfl rfl (fun _ h => absurd h List.not_mem_nil) s_Pool_find h_Pool_find
set_option maxRecDepth 100000 in
theorem of_Pool_find {Q : Int → AMem → Prop} {x1 x2 : Int} {σ : AMem} (h : ∀ X : Nat → List Int → AMem → Prop, (∀ (x1 x2 : Int) (σ : AMem), B_Pool_find_0 X Q x1 x2 σ → X 0 [8340, x1, x2] σ) → (∀ (x2 x3 : Int) (σ : AMem), B_Pool_find_1 X Q x2 x3 σ → X 1 [8340, x2, x3] σ) → X 0 [8340, x1, x2] σ) : T_Pool_find [8340, x1, x2] σ Q := fun X hX => h X (fun x1 x2 σ h => hX 0 [8340, x1, x2] σ h) (fun x2 x3 σ h => hX 1 [8340, x2, x3] σ h)
def c_Pool_step : List aE := [(0, 1, .aload_n 0, 1, 0, 0, []), (1, 0, .iload_n 1, 1, 0, 0, []), (2, 0, .iload_n 2, 1, 0, 0, []), (3, 0, .invokevirtual 65, 3, 50, 5, [3176]), (6, 0, .istore_n 3, 1, 0, 0, []), (7, 0, .iload_n 3, 1, 0, 0, []), (8, 0, .ifCond .lt 5, 3, 0, 0, []), (11, 0, .iload_n 3, 1, 0, 0, []), (12, 0, .ireturn, 1, 0, 0, []), (13, 0, .aload_n 0, 1, 0, 0, []), (14, 0, .iload_n 2, 1, 0, 0, []), (15, 0, .invokevirtual 36, 3, 2, 5, [2189]), (18, 0, .istore_n 3, 1, 0, 0, []), (19, 0, .aload_n 0, 1, 0, 0, []), (20, 0, .getfield 16, 3, 5, 1, [2, 0, 1020]), (23, 0, .iload_n 3, 1, 0, 0, []), (24, 0, .aload_n 0, 1, 0, 0, []), (25, 0, .getfield 12, 3, 5, 0, [2, 0, 1019]), (28, 0, .iload_n 1, 1, 0, 0, []), (29, 0, .iaload, 1, 0, 0, []), (30, 0, .iastore, 1, 0, 0, []), (31, 0, .aload_n 0, 1, 0, 0, []), (32, 0, .getfield 12, 3, 5, 0, [2, 0, 1019]), (35, 0, .iload_n 1, 1, 0, 0, []), (36, 0, .iload_n 3, 1, 0, 0, []), (37, 0, .iastore, 1, 0, 0, []), (38, 0, .iload_n 3, 1, 0, 0, []), (39, 0, .ireturn, 1, 0, 0, [])]
def m_Pool_step : List aT := [(0, [(0, 2), (1, 0), (2, 0)], [])]
def B_Pool_step_0 (X : Nat → List Int → AMem → Prop) (Q : Int → AMem → Prop) (x1 x2 : Int) (σ : AMem) : Prop :=
  T_Pool_find [8340, x1, x2] σ (fun r1 σ2 => (if r1 < 0 then
  T_Pool_add [8340, x2] σ2 (fun r3 σ4 => 0 ≤ x1 ∧ x1 < 65544 ∧ 0 ≤ r3 ∧ r3 < 65544 ∧ am_let (am_upd σ4 8342 r3 (σ4 8341 x1)) (fun σ5 => 0 ≤ x1 ∧ x1 < 65544 ∧ am_let (am_upd σ5 8341 x1 r3) (fun σ6 => Q r3 σ6)))
  else
  Q r1 σ2))
def B_Pool_step : (Nat → List Int → AMem → Prop) → (Int → AMem → Prop) → Nat → List Int → AMem → Prop := fun X Q j v σ => am_sel [(am_v3 (fun t x1 x2 σ => if t = 8340 then B_Pool_step_0 X Q x1 x2 σ else False))] j v σ
def T_Pool_step : List Int → AMem → (Int → AMem → Prop) → Prop := am_T B_Pool_step
abbrev y_Pool_step : MethodName := ⟨"LinkHouse$Pool", "step", "(II)I"⟩
def a_Pool_step : AC := (51, (y_Pool_step, prog_7_method_9_code, 4, (Option.some Jvm.ClassFile.FieldType.int)), [2, 0, 0], 0, false, { frames := 1, cells := 0, slots := 0, locals := 31 }, T_Pool_step)
set_option maxRecDepth 100000 in
theorem ms_Pool_step : am_MSp a_Pool_step := am_ms_v 3175 6 3174 101003 5 rfl (by decide +kernel)
abbrev k_Pool_step : List AC := [a_Pool_find, a_Pool_add]
set_option maxRecDepth 100000 in
theorem s_Pool_step : (am_chkR { frames := 1, cells := 0, slots := 0, locals := 31 } k_Pool_step && am_chkN c_Pool_step { frames := 1, cells := 0, slots := 0, locals := 31 } && c_Pool_step.all (am_chk "LinkHouse$Pool" prog_7_method_9_code 4 (Option.some Jvm.ClassFile.FieldType.int) k_Pool_step) && c_Pool_step.all (am_chkL m_Pool_step) && decide (m_Pool_step[0]? = some (0, am_argp 0 [2, 0, 0], [])) && decide (am_argn [2, 0, 0] ≤ 4)) = true := by decide +kernel
set_option maxHeartbeats 150000 in
set_option maxRecDepth 100000 in
theorem h_Pool_step : ∀ X Q j v σ, B_Pool_step X Q j v σ → am_at GR k_Pool_step c_Pool_step m_Pool_step X Q 33 j v σ := fun X Q => am_sel_all (P := fun j v σ => am_at GR k_Pool_step c_Pool_step m_Pool_step X Q 33 j v σ) (⟨(am_v3_of (fun t x1 x2 σ h => am_tk (fun e => by subst e; exact fun h => h) h)), trivial⟩)
set_option maxRecDepth 100000 in
theorem S_Pool_step (l : Launch) (w : AW) : am_S l w GR a_Pool_step := am_sound (rt := 0) (cal := k_Pool_step) 51 y_Pool_step prog_7_method_9_code 4 (Option.some Jvm.ClassFile.FieldType.int) [2, 0, 0] false { frames := 1, cells := 0, slots := 0, locals := 31 } B_Pool_step "LinkHouse$Pool" c_Pool_step m_Pool_step 33 ms_Pool_step (by decide +kernel) rfl rfl (am_cal (S_Pool_find l w) (am_cal (S_Pool_add l w) (fun _ h => absurd h List.not_mem_nil))) s_Pool_step h_Pool_step
set_option maxRecDepth 100000 in
theorem of_Pool_step {Q : Int → AMem → Prop} {x1 x2 : Int} {σ : AMem} (h : ∀ X : Nat → List Int → AMem → Prop, (∀ (x1 x2 : Int) (σ : AMem), B_Pool_step_0 X Q x1 x2 σ → X 0 [8340, x1, x2] σ) → X 0 [8340, x1, x2] σ) : T_Pool_step [8340, x1, x2] σ Q := fun X hX => h X (fun x1 x2 σ h => hX 0 [8340, x1, x2] σ h)
set_option maxRecDepth 100000 in
theorem iff_Pool_step {Q : Int → AMem → Prop} {X : Nat → List Int → AMem → Prop} {x1 x2 : Int} {σ : AMem} : T_Pool_step [8340, x1, x2] σ Q ↔ B_Pool_step_0 X Q x1 x2 σ := ⟨fun h => h (fun j v σ => B_Pool_step X Q j v σ) (fun _ _ _ q => q), fun h _ hX => hX 0 _ _ h⟩
def c_Pool_takes : List aE := [(0, 1, .lconst 0, 1, 0, 0, []), (1, 0, .lstore_n 3, 1, 0, 0, []), (2, 2, .lload_n 3, 1, 0, 0, []), (3, 0, .aload_n 1, 1, 0, 0, []), (4, 0, .getfield 53, 3, 7, 13, [2, 0, 1093]), (7, 0, .iload_n 2, 1, 0, 0, []), (8, 0, .laload, 1, 0, 0, []), (9, 0, .lcmp, 1, 0, 0, []), (10, 0, .ifCond .ge 59, 3, 0, 0, []), (13, 0, .iconst 0, 1, 0, 0, []), (14, 0, .istore 5, 2, 0, 0, []), (16, 0, .aload_n 1, 1, 0, 0, []), (17, 0, .iload_n 2, 1, 0, 0, []), (18, 0, .lload_n 3, 1, 0, 0, []), (19, 0, .invokestatic 57, 3, 49, 0, [3165]), (22, 0, .lconst 1, 1, 0, 0, []), (23, 0, .lsub, 1, 0, 0, []), (24, 0, .lstore 6, 2, 0, 0, []), (26, 3, .lload 6, 2, 0, 0, []), (28, 0, .lload_n 3, 1, 0, 0, []), (29, 0, .lcmp, 1, 0, 0, []), (30, 0, .ifCond .lt 27, 3, 0, 0, []), (33, 0, .aload_n 0, 1, 0, 0, []), (34, 0, .iload 5, 2, 0, 0, []), (36, 0, .aload_n 1, 1, 0, 0, []), (37, 0, .iload_n 2, 1, 0, 0, []), (38, 0, .lload 6, 2, 0, 0, []), (40, 0, .invokestatic 49, 3, 48, 0, [3168]), (43, 0, .invokevirtual 61, 3, 51, 5, [3172]), (46, 0, .istore 5, 2, 0, 0, []), (48, 0, .lload 6, 2, 0, 0, []), (50, 0, .lconst 1, 1, 0, 0, []), (51, 0, .lsub, 1, 0, 0, []), (52, 0, .lstore 6, 2, 0, 0, []), (54, 0, .goto (-28), 3, 0, 0, []), (57, 0, .aload_n 1, 1, 0, 0, []), (58, 0, .iload_n 2, 1, 0, 0, []), (59, 0, .lload_n 3, 1, 0, 0, []), (60, 0, .invokestatic 57, 3, 49, 0, [3165]), (63, 0, .lconst 1, 1, 0, 0, []), (64, 0, .ladd, 1, 0, 0, []), (65, 0, .lstore_n 3, 1, 0, 0, []), (66, 0, .goto (-64), 3, 0, 0, []), (69, 0, .return_, 1, 0, 0, [])]
def m_Pool_takes : List aT := [(0, [(0, 2), (1, 2), (2, 0)], []), (2, [(0, 2), (1, 2), (2, 0), (3, 1)], []), (26, [(0, 2), (1, 2), (2, 0), (3, 1), (5, 0), (6, 1)], [])]
def B_Pool_takes_0 (X : Nat → List Int → AMem → Prop) (Q : Int → AMem → Prop) (x1 x2 : Int) (σ : AMem) : Prop :=
  X 1 [8340, x1, x2, 0] σ
def B_Pool_takes_1 (X : Nat → List Int → AMem → Prop) (Q : Int → AMem → Prop) (x1 x2 x3 : Int) (σ : AMem) : Prop :=
  (if ly_k x1 = 27 then (if ly_k (am_rd GR σ x1 13) = 4 then 0 ≤ x2 ∧ x2 < ly_l (am_rd GR σ x1 13) ∧ (if x3 < (σ (am_rd GR σ x1 13) x2) then
  T_Pool_endOf [x1, x2, x3] σ (fun r1 σ2 => X 2 [8340, x1, x2, x3, 0, (w64 (r1 - 1))] σ2)
  else
  Q 0 σ) else False) else False)
def B_Pool_takes_2 (X : Nat → List Int → AMem → Prop) (Q : Int → AMem → Prop) (x1 x2 x3 x5 x6 : Int) (σ : AMem) : Prop :=
  (if x6 < x3 then
  T_Pool_endOf [x1, x2, x3] σ (fun r1 σ2 => X 1 [8340, x1, x2, (w64 (r1 + 1))] σ2)
  else
  T_Pool_letterOf [x1, x2, x6] σ (fun r3 σ4 => T_Pool_step [8340, x5, r3] σ4 (fun r5 σ6 => X 2 [8340, x1, x2, x3, r5, (w64 (x6 - 1))] σ6)))
def B_Pool_takes : (Nat → List Int → AMem → Prop) → (Int → AMem → Prop) → Nat → List Int → AMem → Prop := fun X Q j v σ => am_sel [(am_v3 (fun t x1 x2 σ => if t = 8340 then B_Pool_takes_0 X Q x1 x2 σ else False)), (am_v4 (fun t x1 x2 x3 σ => if t = 8340 then B_Pool_takes_1 X Q x1 x2 x3 σ else False)), (am_v6 (fun t x1 x2 x3 x5 x6 σ => if t = 8340 then B_Pool_takes_2 X Q x1 x2 x3 x5 x6 σ else False))] j v σ
def T_Pool_takes : List Int → AMem → (Int → AMem → Prop) → Prop := am_T B_Pool_takes
abbrev y_Pool_takes : MethodName := ⟨"LinkHouse$Pool", "takes", "(LLinkHouse$Part;I)V"⟩
def a_Pool_takes : AC := (52, (y_Pool_takes, prog_7_method_8_code, 8, (Option.none : Option Jvm.ClassFile.FieldType)), [2, 2, 0], 3, false, { frames := 3, cells := 0, slots := 0, locals := 98 }, T_Pool_takes)
set_option maxRecDepth 100000 in
theorem ms_Pool_takes : am_MSp a_Pool_takes := am_ms_v 3164 6 3162 3163 5 rfl (by decide +kernel)
abbrev k_Pool_takes : List AC := [a_Pool_endOf, a_Pool_letterOf, a_Pool_step]
set_option maxRecDepth 100000 in
theorem s_Pool_takes : (am_chkR { frames := 3, cells := 0, slots := 0, locals := 98 } k_Pool_takes && am_chkN c_Pool_takes { frames := 3, cells := 0, slots := 0, locals := 98 } && c_Pool_takes.all (am_chk "LinkHouse$Pool" prog_7_method_8_code 8 (Option.none : Option Jvm.ClassFile.FieldType) k_Pool_takes) && c_Pool_takes.all (am_chkL m_Pool_takes) && decide (m_Pool_takes[0]? = some (0, am_argp 0 [2, 2, 0], [])) && decide (am_argn [2, 2, 0] ≤ 8)) = true := by decide +kernel
set_option maxHeartbeats 150000 in
set_option maxRecDepth 100000 in
theorem h_Pool_takes : ∀ X Q j v σ, B_Pool_takes X Q j v σ → am_at GR k_Pool_takes c_Pool_takes m_Pool_takes X Q 49 j v σ := fun X Q => am_sel_all (P := fun j v σ => am_at GR k_Pool_takes c_Pool_takes m_Pool_takes X Q 49 j v σ) (⟨(am_v3_of (fun t x1 x2 σ h => am_tk (fun e => by subst e; exact fun h => h) h)), ⟨(am_v4_of (fun t x1 x2 x3 σ h => am_tk (fun e => by subst e; exact fun h => h) h)), ⟨(am_v6_of (fun t x1 x2 x3 x5 x6 σ h => am_tk (fun e => by subst e; exact fun h => h) h)), trivial⟩⟩⟩)
set_option maxRecDepth 100000 in
theorem S_Pool_takes (l : Launch) (w : AW) : am_S l w GR a_Pool_takes := am_sound (rt := 3) (cal := k_Pool_takes) 52 y_Pool_takes prog_7_method_8_code 8 (Option.none : Option Jvm.ClassFile.FieldType) [2, 2, 0] false { frames := 3, cells := 0, slots := 0, locals := 98 } B_Pool_takes "LinkHouse$Pool" c_Pool_takes m_Pool_takes 49 ms_Pool_takes (by decide +kernel) rfl rfl (am_cal (S_Pool_endOf l w) (am_cal (S_Pool_letterOf l w) (am_cal (S_Pool_step l w) (fun _ h => absurd h List.not_mem_nil)))) s_Pool_takes h_Pool_takes
set_option maxRecDepth 100000 in
theorem of_Pool_takes {Q : Int → AMem → Prop} {x1 x2 : Int} {σ : AMem} (h : ∀ X : Nat → List Int → AMem → Prop, (∀ (x1 x2 : Int) (σ : AMem), B_Pool_takes_0 X Q x1 x2 σ → X 0 [8340, x1, x2] σ) → (∀ (x1 x2 x3 : Int) (σ : AMem), B_Pool_takes_1 X Q x1 x2 x3 σ → X 1 [8340, x1, x2, x3] σ) → (∀ (x1 x2 x3 x5 x6 : Int) (σ : AMem), B_Pool_takes_2 X Q x1 x2 x3 x5 x6 σ → X 2 [8340, x1, x2, x3, x5, x6] σ) → X 0 [8340, x1, x2] σ) : T_Pool_takes [8340, x1, x2] σ Q := fun X hX => h X (fun x1 x2 σ h => hX 0 [8340, x1, x2] σ h) (fun x1 x2 x3 σ h => hX 1 [8340, x1, x2, x3] σ h) (fun x1 x2 x3 x5 x6 σ h => hX 2 [8340, x1, x2, x3, x5, x6] σ h)
def c_Pool_nodeOf : List aE := [(0, 1, .iconst 0, 1, 0, 0, []), (1, 0, .istore 7, 2, 0, 0, []), (3, 0, .lload 5, 2, 0, 0, []), (5, 0, .lconst 1, 1, 0, 0, []), (6, 0, .lsub, 1, 0, 0, []), (7, 0, .lstore 8, 2, 0, 0, []), (9, 2, .lload 8, 2, 0, 0, []), (11, 0, .lload_n 3, 1, 0, 0, []), (12, 0, .lcmp, 1, 0, 0, []), (13, 0, .ifCond .lt 27, 3, 0, 0, []), (16, 0, .aload_n 0, 1, 0, 0, []), (17, 0, .iload 7, 2, 0, 0, []), (19, 0, .aload_n 1, 1, 0, 0, []), (20, 0, .iload_n 2, 1, 0, 0, []), (21, 0, .lload 8, 2, 0, 0, []), (23, 0, .invokestatic 49, 3, 48, 0, [3168]), (26, 0, .invokevirtual 65, 3, 50, 5, [3176]), (29, 0, .istore 7, 2, 0, 0, []), (31, 0, .lload 8, 2, 0, 0, []), (33, 0, .lconst 1, 1, 0, 0, []), (34, 0, .lsub, 1, 0, 0, []), (35, 0, .lstore 8, 2, 0, 0, []), (37, 0, .goto (-28), 3, 0, 0, []), (40, 0, .iload 7, 2, 0, 0, []), (42, 0, .ireturn, 1, 0, 0, [])]
def m_Pool_nodeOf : List aT := [(0, [(0, 2), (1, 2), (2, 0), (3, 1), (5, 1)], []), (9, [(0, 2), (1, 2), (2, 0), (3, 1), (7, 0), (8, 1)], [])]
def B_Pool_nodeOf_0 (X : Nat → List Int → AMem → Prop) (Q : Int → AMem → Prop) (x1 x2 x3 x5 : Int) (σ : AMem) : Prop :=
  X 1 [8340, x1, x2, x3, 0, (w64 (x5 - 1))] σ
def B_Pool_nodeOf_1 (X : Nat → List Int → AMem → Prop) (Q : Int → AMem → Prop) (x1 x2 x3 x7 x8 : Int) (σ : AMem) : Prop :=
  (if x8 < x3 then
  Q x7 σ
  else
  T_Pool_letterOf [x1, x2, x8] σ (fun r1 σ2 => T_Pool_find [8340, x7, r1] σ2 (fun r3 σ4 => X 1 [8340, x1, x2, x3, r3, (w64 (x8 - 1))] σ4)))
def B_Pool_nodeOf : (Nat → List Int → AMem → Prop) → (Int → AMem → Prop) → Nat → List Int → AMem → Prop := fun X Q j v σ => am_sel [(am_v5 (fun t x1 x2 x3 x5 σ => if t = 8340 then B_Pool_nodeOf_0 X Q x1 x2 x3 x5 σ else False)), (am_v6 (fun t x1 x2 x3 x7 x8 σ => if t = 8340 then B_Pool_nodeOf_1 X Q x1 x2 x3 x7 x8 σ else False))] j v σ
def T_Pool_nodeOf : List Int → AMem → (Int → AMem → Prop) → Prop := am_T B_Pool_nodeOf
abbrev y_Pool_nodeOf : MethodName := ⟨"LinkHouse$Pool", "nodeOf", "(LLinkHouse$Part;IJJ)I"⟩
def a_Pool_nodeOf : AC := (53, (y_Pool_nodeOf, prog_7_method_10_code, 10, (Option.some Jvm.ClassFile.FieldType.int)), [2, 2, 0, 1, 1], 0, false, { frames := 2, cells := 0, slots := 0, locals := 65 }, T_Pool_nodeOf)
set_option maxRecDepth 100000 in
theorem ms_Pool_nodeOf : am_MSp a_Pool_nodeOf := am_ms_v 3187 6 3186 101005 5 rfl (by decide +kernel)
abbrev k_Pool_nodeOf : List AC := [a_Pool_letterOf, a_Pool_find]
set_option maxRecDepth 100000 in
theorem s_Pool_nodeOf : (am_chkR { frames := 2, cells := 0, slots := 0, locals := 65 } k_Pool_nodeOf && am_chkN c_Pool_nodeOf { frames := 2, cells := 0, slots := 0, locals := 65 } && c_Pool_nodeOf.all (am_chk "LinkHouse$Pool" prog_7_method_10_code 10 (Option.some Jvm.ClassFile.FieldType.int) k_Pool_nodeOf) && c_Pool_nodeOf.all (am_chkL m_Pool_nodeOf) && decide (m_Pool_nodeOf[0]? = some (0, am_argp 0 [2, 2, 0, 1, 1], [])) && decide (am_argn [2, 2, 0, 1, 1] ≤ 10)) = true := by decide +kernel
set_option maxHeartbeats 150000 in
set_option maxRecDepth 100000 in
theorem h_Pool_nodeOf : ∀ X Q j v σ, B_Pool_nodeOf X Q j v σ → am_at GR k_Pool_nodeOf c_Pool_nodeOf m_Pool_nodeOf X Q 30 j v σ := fun X Q => am_sel_all (P := fun j v σ => am_at GR k_Pool_nodeOf c_Pool_nodeOf m_Pool_nodeOf X Q 30 j v σ) (⟨(am_v5_of (fun t x1 x2 x3 x5 σ h => am_tk (fun e => by subst e; exact fun h => h) h)), ⟨(am_v6_of (fun t x1 x2 x3 x7 x8 σ h => am_tk (fun e => by subst e; exact fun h => h) h)), trivial⟩⟩)
set_option maxRecDepth 100000 in
theorem S_Pool_nodeOf (l : Launch) (w : AW) : am_S l w GR a_Pool_nodeOf := am_sound (rt := 0) (cal := k_Pool_nodeOf) 53 y_Pool_nodeOf prog_7_method_10_code 10 (Option.some Jvm.ClassFile.FieldType.int) [2, 2, 0, 1, 1] false { frames := 2, cells := 0, slots := 0, locals := 65 } B_Pool_nodeOf "LinkHouse$Pool" c_Pool_nodeOf m_Pool_nodeOf 30 ms_Pool_nodeOf (by decide +kernel) rfl rfl (am_cal (S_Pool_letterOf l w) (am_cal (S_Pool_find l w) (fun _ h => absurd h List.not_mem_nil))) s_Pool_nodeOf h_Pool_nodeOf
set_option maxRecDepth 100000 in
theorem of_Pool_nodeOf {Q : Int → AMem → Prop} {x1 x2 x3 x5 : Int} {σ : AMem} (h : ∀ X : Nat → List Int → AMem → Prop, (∀ (x1 x2 x3 x5 : Int) (σ : AMem), B_Pool_nodeOf_0 X Q x1 x2 x3 x5 σ → X 0 [8340, x1, x2, x3, x5] σ) → (∀ (x1 x2 x3 x7 x8 : Int) (σ : AMem), B_Pool_nodeOf_1 X Q x1 x2 x3 x7 x8 σ → X 1 [8340, x1, x2, x3, x7, x8] σ) → X 0 [8340, x1, x2, x3, x5] σ) : T_Pool_nodeOf [8340, x1, x2, x3, x5] σ Q := fun X hX => h X (fun x1 x2 x3 x5 σ h => hX 0 [8340, x1, x2, x3, x5] σ h) (fun x1 x2 x3 x7 x8 σ h => hX 1 [8340, x1, x2, x3, x7, x8] σ h)
def c_Pool_lays : List aE := [(0, 1, .lconst 0, 1, 0, 0, []), (1, 0, .lstore_n 3, 1, 0, 0, []), (2, 2, .lload_n 3, 1, 0, 0, []), (3, 0, .aload_n 1, 1, 0, 0, []), (4, 0, .getfield 53, 3, 7, 13, [2, 0, 1093]), (7, 0, .iload_n 2, 1, 0, 0, []), (8, 0, .laload, 1, 0, 0, []), (9, 0, .lcmp, 1, 0, 0, []), (10, 0, .ifCond .ge 171, 3, 0, 0, []), (13, 0, .aload_n 1, 1, 0, 0, []), (14, 0, .iload_n 2, 1, 0, 0, []), (15, 0, .lload_n 3, 1, 0, 0, []), (16, 0, .invokestatic 57, 3, 49, 0, [3165]), (19, 0, .lstore 5, 2, 0, 0, []), (21, 0, .aload_n 0, 1, 0, 0, []), (22, 0, .aload_n 1, 1, 0, 0, []), (23, 0, .iload_n 2, 1, 0, 0, []), (24, 0, .lload_n 3, 1, 0, 0, []), (25, 0, .lload 5, 2, 0, 0, []), (27, 0, .invokevirtual 68, 3, 53, 5, [3184]), (30, 0, .istore 7, 2, 0, 0, []), (32, 0, .aload_n 0, 1, 0, 0, []), (33, 0, .getfield 12, 3, 5, 0, [2, 0, 1019]), (36, 0, .iload 7, 2, 0, 0, []), (38, 0, .iaload, 1, 0, 0, []), (39, 0, .ifCond .ge 130, 3, 0, 0, []), (42, 0, .aload_n 0, 1, 0, 0, []), (43, 0, .getfield 19, 3, 5, 2, [2, 0, 1021]), (46, 0, .iload 7, 2, 0, 0, []), (48, 0, .iaload, 1, 0, 0, []), (49, 0, .ifCond .le 6, 3, 0, 0, []), (52, 0, .goto 117, 3, 0, 0, []), (55, 0, .lload_n 3, 1, 0, 0, []), (56, 0, .lstore 8, 2, 0, 0, []), (58, 3, .lload 8, 2, 0, 0, []), (60, 0, .lload 5, 2, 0, 0, []), (62, 0, .lcmp, 1, 0, 0, []), (63, 0, .ifCond .gt 36, 3, 0, 0, []), (66, 0, .aload_n 0, 1, 0, 0, []), (67, 0, .getfield 26, 3, 5, 4, [2, 0, 1023]), (70, 0, .aload_n 0, 1, 0, 0, []), (71, 0, .dup, 1, 0, 0, []), (72, 0, .getfield 33, 3, 5, 6, [0, 0, 1026]), (75, 0, .dup_x1, 1, 0, 0, []), (76, 0, .iconst 1, 1, 0, 0, []), (77, 0, .iadd, 1, 0, 0, []), (78, 0, .putfield 33, 3, 5, 6, [0, 0, 1026]), (81, 0, .aload_n 1, 1, 0, 0, []), (82, 0, .iload_n 2, 1, 0, 0, []), (83, 0, .lload 8, 2, 0, 0, []), (85, 0, .invokestatic 49, 3, 48, 0, [3168]), (88, 0, .i2b, 1, 0, 0, []), (89, 0, .bastore, 1, 2, 0, []), (90, 0, .lload 8, 2, 0, 0, []), (92, 0, .lconst 1, 1, 0, 0, []), (93, 0, .ladd, 1, 0, 0, []), (94, 0, .lstore 8, 2, 0, 0, []), (96, 0, .goto (-38), 3, 0, 0, []), (99, 0, .iconst 0, 1, 0, 0, []), (100, 0, .istore 7, 2, 0, 0, []), (102, 0, .lload 5, 2, 0, 0, []), (104, 0, .lconst 1, 1, 0, 0, []), (105, 0, .lsub, 1, 0, 0, []), (106, 0, .lstore 8, 2, 0, 0, []), (108, 4, .lload 8, 2, 0, 0, []), (110, 0, .lload_n 3, 1, 0, 0, []), (111, 0, .lconst 1, 1, 0, 0, []), (112, 0, .lsub, 1, 0, 0, []), (113, 0, .lcmp, 1, 0, 0, []), (114, 0, .ifCond .lt 55, 3, 0, 0, []), (117, 0, .aload_n 0, 1, 0, 0, []), (118, 0, .getfield 19, 3, 5, 2, [2, 0, 1021]), (121, 0, .iload 7, 2, 0, 0, []), (123, 0, .iaload, 1, 0, 0, []), (124, 0, .ifCond .ne 14, 3, 0, 0, []), (127, 0, .aload_n 0, 1, 0, 0, []), (128, 0, .getfield 19, 3, 5, 2, [2, 0, 1021]), (131, 0, .iload 7, 2, 0, 0, []), (133, 0, .aload_n 0, 1, 0, 0, []), (134, 0, .getfield 33, 3, 5, 6, [0, 0, 1026]), (137, 0, .iastore, 1, 0, 0, []), (138, 5, .lload 8, 2, 0, 0, []), (140, 0, .lload_n 3, 1, 0, 0, []), (141, 0, .lcmp, 1, 0, 0, []), (142, 0, .ifCond .lt 18, 3, 0, 0, []), (145, 0, .aload_n 0, 1, 0, 0, []), (146, 0, .iload 7, 2, 0, 0, []), (148, 0, .aload_n 1, 1, 0, 0, []), (149, 0, .iload_n 2, 1, 0, 0, []), (150, 0, .lload 8, 2, 0, 0, []), (152, 0, .invokestatic 49, 3, 48, 0, [3168]), (155, 0, .invokevirtual 65, 3, 50, 5, [3176]), (158, 0, .istore 7, 2, 0, 0, []), (160, 6, .lload 8, 2, 0, 0, []), (162, 0, .lconst 1, 1, 0, 0, []), (163, 0, .lsub, 1, 0, 0, []), (164, 0, .lstore 8, 2, 0, 0, []), (166, 0, .goto (-58), 3, 0, 0, []), (169, 7, .aload_n 1, 1, 0, 0, []), (170, 0, .iload_n 2, 1, 0, 0, []), (171, 0, .lload_n 3, 1, 0, 0, []), (172, 0, .invokestatic 57, 3, 49, 0, [3165]), (175, 0, .lconst 1, 1, 0, 0, []), (176, 0, .ladd, 1, 0, 0, []), (177, 0, .lstore_n 3, 1, 0, 0, []), (178, 0, .goto (-176), 3, 0, 0, []), (181, 0, .return_, 1, 0, 0, [])]
def m_Pool_lays : List aT := [(0, [(0, 2), (1, 2), (2, 0)], []), (2, [(0, 2), (1, 2), (2, 0), (3, 1)], []), (58, [(0, 2), (1, 2), (2, 0), (3, 1), (5, 1), (8, 1)], []), (108, [(0, 2), (1, 2), (2, 0), (3, 1), (7, 0), (8, 1)], []), (138, [(0, 2), (1, 2), (2, 0), (3, 1), (7, 0), (8, 1)], []), (160, [(0, 2), (1, 2), (2, 0), (3, 1), (7, 0), (8, 1)], []), (169, [(0, 2), (1, 2), (2, 0), (3, 1)], [])]
def B_Pool_lays_0 (X : Nat → List Int → AMem → Prop) (Q : Int → AMem → Prop) (x1 x2 : Int) (σ : AMem) : Prop :=
  X 1 [8340, x1, x2, 0] σ
def B_Pool_lays_1 (X : Nat → List Int → AMem → Prop) (Q : Int → AMem → Prop) (x1 x2 x3 : Int) (σ : AMem) : Prop :=
  (if ly_k x1 = 27 then (if ly_k (am_rd GR σ x1 13) = 4 then 0 ≤ x2 ∧ x2 < ly_l (am_rd GR σ x1 13) ∧ (if x3 < (σ (am_rd GR σ x1 13) x2) then
  T_Pool_endOf [x1, x2, x3] σ (fun r1 σ2 => T_Pool_nodeOf [8340, x1, x2, x3, r1] σ2 (fun r3 σ4 => 0 ≤ r3 ∧ r3 < 65544 ∧ (if (σ4 8341 r3) < 0 then
    0 ≤ r3 ∧ r3 < 65544 ∧ (if 0 < (σ4 8343 r3) then
      X 6 [8340, x1, x2, x3] σ4
      else
      X 2 [8340, x1, x2, x3, r1, x3] σ4)
    else
    X 6 [8340, x1, x2, x3] σ4)))
  else
  Q 0 σ) else False) else False)
def B_Pool_lays_2 (X : Nat → List Int → AMem → Prop) (Q : Int → AMem → Prop) (x1 x2 x3 x5 x8 : Int) (σ : AMem) : Prop :=
  (if x5 < x8 then
  X 3 [8340, x1, x2, x3, 0, (w64 (x5 - 1))] σ
  else
  am_r32 ((σ 8340 6) + 1) ∧ am_let (am_upd σ 8340 6 ((σ 8340 6) + 1)) (fun σ1 => T_Pool_letterOf [x1, x2, x8] σ1 (fun r2 σ3 => 0 ≤ (σ 8340 6) ∧ (σ 8340 6) < 65544 ∧ am_let (am_upd σ3 8345 (σ 8340 6) (w8 (w8 r2))) (fun σ4 => X 2 [8340, x1, x2, x3, x5, (w64 (x8 + 1))] σ4))))
def B_Pool_lays_3 (X : Nat → List Int → AMem → Prop) (Q : Int → AMem → Prop) (x1 x2 x3 x7 x8 : Int) (σ : AMem) : Prop :=
  (if x8 < (w64 (x3 - 1)) then
  X 6 [8340, x1, x2, x3] σ
  else
  0 ≤ x7 ∧ x7 < 65544 ∧ (if (σ 8343 x7) = 0 then
    0 ≤ x7 ∧ x7 < 65544 ∧ am_let (am_upd σ 8343 x7 (σ 8340 6)) (fun σ1 => X 4 [8340, x1, x2, x3, x7, x8] σ1)
    else
    X 4 [8340, x1, x2, x3, x7, x8] σ))
def B_Pool_lays_4 (X : Nat → List Int → AMem → Prop) (Q : Int → AMem → Prop) (x1 x2 x3 x7 x8 : Int) (σ : AMem) : Prop :=
  (if x8 < x3 then
  X 5 [8340, x1, x2, x3, x7, x8] σ
  else
  T_Pool_letterOf [x1, x2, x8] σ (fun r1 σ2 => T_Pool_find [8340, x7, r1] σ2 (fun r3 σ4 => X 5 [8340, x1, x2, x3, r3, x8] σ4)))
def B_Pool_lays_5 (X : Nat → List Int → AMem → Prop) (Q : Int → AMem → Prop) (x1 x2 x3 x7 x8 : Int) (σ : AMem) : Prop :=
  X 3 [8340, x1, x2, x3, x7, (w64 (x8 - 1))] σ
def B_Pool_lays_6 (X : Nat → List Int → AMem → Prop) (Q : Int → AMem → Prop) (x1 x2 x3 : Int) (σ : AMem) : Prop :=
  T_Pool_endOf [x1, x2, x3] σ (fun r1 σ2 => X 1 [8340, x1, x2, (w64 (r1 + 1))] σ2)
def B_Pool_lays : (Nat → List Int → AMem → Prop) → (Int → AMem → Prop) → Nat → List Int → AMem → Prop := fun X Q j v σ => am_sel [(am_v3 (fun t x1 x2 σ => if t = 8340 then B_Pool_lays_0 X Q x1 x2 σ else False)), (am_v4 (fun t x1 x2 x3 σ => if t = 8340 then B_Pool_lays_1 X Q x1 x2 x3 σ else False)), (am_v6 (fun t x1 x2 x3 x5 x8 σ => if t = 8340 then B_Pool_lays_2 X Q x1 x2 x3 x5 x8 σ else False)), (am_v6 (fun t x1 x2 x3 x7 x8 σ => if t = 8340 then B_Pool_lays_3 X Q x1 x2 x3 x7 x8 σ else False)), (am_v6 (fun t x1 x2 x3 x7 x8 σ => if t = 8340 then B_Pool_lays_4 X Q x1 x2 x3 x7 x8 σ else False)), (am_v6 (fun t x1 x2 x3 x7 x8 σ => if t = 8340 then B_Pool_lays_5 X Q x1 x2 x3 x7 x8 σ else False)), (am_v4 (fun t x1 x2 x3 σ => if t = 8340 then B_Pool_lays_6 X Q x1 x2 x3 σ else False))] j v σ
def T_Pool_lays : List Int → AMem → (Int → AMem → Prop) → Prop := am_T B_Pool_lays
abbrev y_Pool_lays : MethodName := ⟨"LinkHouse$Pool", "lays", "(LLinkHouse$Part;I)V"⟩
def a_Pool_lays : AC := (54, (y_Pool_lays, prog_7_method_11_code, 10, (Option.none : Option Jvm.ClassFile.FieldType)), [2, 2, 0], 3, false, { frames := 3, cells := 0, slots := 0, locals := 102 }, T_Pool_lays)
set_option maxRecDepth 100000 in
theorem ms_Pool_lays : am_MSp a_Pool_lays := am_ms_v 3183 6 3181 3182 5 rfl (by decide +kernel)
abbrev k_Pool_lays : List AC := [a_Pool_endOf, a_Pool_nodeOf, a_Pool_letterOf, a_Pool_find]
set_option maxRecDepth 100000 in
theorem s_Pool_lays : (am_chkR { frames := 3, cells := 0, slots := 0, locals := 102 } k_Pool_lays && am_chkN c_Pool_lays { frames := 3, cells := 0, slots := 0, locals := 102 } && c_Pool_lays.all (am_chk "LinkHouse$Pool" prog_7_method_11_code 10 (Option.none : Option Jvm.ClassFile.FieldType) k_Pool_lays) && c_Pool_lays.all (am_chkL m_Pool_lays) && decide (m_Pool_lays[0]? = some (0, am_argp 0 [2, 2, 0], [])) && decide (am_argn [2, 2, 0] ≤ 10)) = true := by decide +kernel
set_option maxHeartbeats 150000 in
set_option maxRecDepth 100000 in
theorem h_Pool_lays : ∀ X Q j v σ, B_Pool_lays X Q j v σ → am_at GR k_Pool_lays c_Pool_lays m_Pool_lays X Q 112 j v σ := fun X Q => am_sel_all (P := fun j v σ => am_at GR k_Pool_lays c_Pool_lays m_Pool_lays X Q 112 j v σ) (⟨(am_v3_of (fun t x1 x2 σ h => am_tk (fun e => by subst e; exact fun h => h) h)), ⟨(am_v4_of (fun t x1 x2 x3 σ h => am_tk (fun e => by subst e; exact fun h => h) h)), ⟨(am_v6_of (fun t x1 x2 x3 x5 x8 σ h => am_tk (fun e => by subst e; exact fun h => h) h)), ⟨(am_v6_of (fun t x1 x2 x3 x7 x8 σ h => am_tk (fun e => by subst e; exact fun h => h) h)), ⟨(am_v6_of (fun t x1 x2 x3 x7 x8 σ h => am_tk (fun e => by subst e; exact fun h => h) h)), ⟨(am_v6_of (fun t x1 x2 x3 x7 x8 σ h => am_tk (fun e => by subst e; exact fun h => h) h)), ⟨(am_v4_of (fun t x1 x2 x3 σ h => am_tk (fun e => by subst e; exact fun h => h) h)), trivial⟩⟩⟩⟩⟩⟩⟩)
set_option maxRecDepth 100000 in
theorem S_Pool_lays (l : Launch) (w : AW) : am_S l w GR a_Pool_lays := am_sound (rt := 3) (cal := k_Pool_lays) 54 y_Pool_lays prog_7_method_11_code 10 (Option.none : Option Jvm.ClassFile.FieldType) [2, 2, 0] false { frames := 3, cells := 0, slots := 0, locals := 102 } B_Pool_lays "LinkHouse$Pool" c_Pool_lays m_Pool_lays 112 ms_Pool_lays (by decide +kernel) rfl rfl (am_cal (S_Pool_endOf l w) (am_cal (S_Pool_nodeOf l w) (am_cal (S_Pool_letterOf l w) (am_cal (S_Pool_find l w) (fun _ h => absurd h List.not_mem_nil))))) s_Pool_lays h_Pool_lays
set_option maxRecDepth 100000 in
theorem of_Pool_lays {Q : Int → AMem → Prop} {x1 x2 : Int} {σ : AMem} (h : ∀ X : Nat → List Int → AMem → Prop, (∀ (x1 x2 : Int) (σ : AMem), B_Pool_lays_0 X Q x1 x2 σ → X 0 [8340, x1, x2] σ) → (∀ (x1 x2 x3 : Int) (σ : AMem), B_Pool_lays_1 X Q x1 x2 x3 σ → X 1 [8340, x1, x2, x3] σ) → (∀ (x1 x2 x3 x5 x8 : Int) (σ : AMem), B_Pool_lays_2 X Q x1 x2 x3 x5 x8 σ → X 2 [8340, x1, x2, x3, x5, x8] σ) → (∀ (x1 x2 x3 x7 x8 : Int) (σ : AMem), B_Pool_lays_3 X Q x1 x2 x3 x7 x8 σ → X 3 [8340, x1, x2, x3, x7, x8] σ) → (∀ (x1 x2 x3 x7 x8 : Int) (σ : AMem), B_Pool_lays_4 X Q x1 x2 x3 x7 x8 σ → X 4 [8340, x1, x2, x3, x7, x8] σ) → (∀ (x1 x2 x3 x7 x8 : Int) (σ : AMem), B_Pool_lays_5 X Q x1 x2 x3 x7 x8 σ → X 5 [8340, x1, x2, x3, x7, x8] σ) → (∀ (x1 x2 x3 : Int) (σ : AMem), B_Pool_lays_6 X Q x1 x2 x3 σ → X 6 [8340, x1, x2, x3] σ) → X 0 [8340, x1, x2] σ) : T_Pool_lays [8340, x1, x2] σ Q := fun X hX => h X (fun x1 x2 σ h => hX 0 [8340, x1, x2] σ h) (fun x1 x2 x3 σ h => hX 1 [8340, x1, x2, x3] σ h) (fun x1 x2 x3 x5 x8 σ h => hX 2 [8340, x1, x2, x3, x5, x8] σ h) (fun x1 x2 x3 x7 x8 σ h => hX 3 [8340, x1, x2, x3, x7, x8] σ h) (fun x1 x2 x3 x7 x8 σ h => hX 4 [8340, x1, x2, x3, x7, x8] σ h) (fun x1 x2 x3 x7 x8 σ h => hX 5 [8340, x1, x2, x3, x7, x8] σ h) (fun x1 x2 x3 σ h => hX 6 [8340, x1, x2, x3] σ h)
def c_LinkHouse_fillPool : List aE := [(0, 1, .iconst 0, 1, 0, 0, []), (1, 0, .istore_n 1, 1, 0, 0, []), (2, 2, .iload_n 1, 1, 0, 0, []), (3, 0, .aload_n 0, 1, 0, 0, []), (4, 0, .getfield 259, 3, 0, 21, [0, 0, 1234]), (7, 0, .if_icmp .ge 18, 3, 0, 0, []), (10, 0, .aload_n 0, 1, 0, 0, []), (11, 0, .getfield 42, 3, 0, 7, [2, 0, 1220]), (14, 0, .iload_n 1, 1, 0, 0, []), (15, 0, .aaload, 1, 5, 0, []), (16, 0, .invokevirtual 471, 3, 46, 7, [3150]), (19, 0, .iinc 1 1, 3, 0, 0, []), (22, 0, .goto (-20), 3, 0, 0, []), (25, 0, .iconst 0, 1, 0, 0, []), (26, 0, .istore_n 1, 1, 0, 0, []), (27, 3, .iload_n 1, 1, 0, 0, []), (28, 0, .aload_n 0, 1, 0, 0, []), (29, 0, .getfield 461, 3, 0, 22, [0, 0, 1235]), (32, 0, .if_icmp .ge 41, 3, 0, 0, []), (35, 0, .aload_n 0, 1, 0, 0, []), (36, 0, .iload_n 1, 1, 0, 0, []), (37, 0, .invokevirtual 474, 3, 47, 0, [3157]), (40, 0, .ifCond .eq 27, 3, 0, 0, []), (43, 0, .aload_n 0, 1, 0, 0, []), (44, 0, .getfield 125, 3, 0, 49, [2, 0, 2022]), (47, 0, .aload_n 0, 1, 0, 0, []), (48, 0, .getfield 42, 3, 0, 7, [2, 0, 1220]), (51, 0, .aload_n 0, 1, 0, 0, []), (52, 0, .getfield 53, 3, 0, 10, [2, 0, 1223]), (55, 0, .iload_n 1, 1, 0, 0, []), (56, 0, .iaload, 1, 0, 0, []), (57, 0, .aaload, 1, 5, 0, []), (58, 0, .aload_n 0, 1, 0, 0, []), (59, 0, .getfield 62, 3, 0, 13, [2, 0, 1226]), (62, 0, .iload_n 1, 1, 0, 0, []), (63, 0, .iaload, 1, 0, 0, []), (64, 0, .invokevirtual 476, 3, 52, 5, [3161]), (67, 4, .iinc 1 1, 3, 0, 0, []), (70, 0, .goto (-43), 3, 0, 0, []), (73, 0, .iconst 0, 1, 0, 0, []), (74, 0, .istore_n 1, 1, 0, 0, []), (75, 5, .iload_n 1, 1, 0, 0, []), (76, 0, .aload_n 0, 1, 0, 0, []), (77, 0, .getfield 461, 3, 0, 22, [0, 0, 1235]), (80, 0, .if_icmp .ge 41, 3, 0, 0, []), (83, 0, .aload_n 0, 1, 0, 0, []), (84, 0, .iload_n 1, 1, 0, 0, []), (85, 0, .invokevirtual 474, 3, 47, 0, [3157]), (88, 0, .ifCond .eq 27, 3, 0, 0, []), (91, 0, .aload_n 0, 1, 0, 0, []), (92, 0, .getfield 125, 3, 0, 49, [2, 0, 2022]), (95, 0, .aload_n 0, 1, 0, 0, []), (96, 0, .getfield 42, 3, 0, 7, [2, 0, 1220]), (99, 0, .aload_n 0, 1, 0, 0, []), (100, 0, .getfield 53, 3, 0, 10, [2, 0, 1223]), (103, 0, .iload_n 1, 1, 0, 0, []), (104, 0, .iaload, 1, 0, 0, []), (105, 0, .aaload, 1, 5, 0, []), (106, 0, .aload_n 0, 1, 0, 0, []), (107, 0, .getfield 62, 3, 0, 13, [2, 0, 1226]), (110, 0, .iload_n 1, 1, 0, 0, []), (111, 0, .iaload, 1, 0, 0, []), (112, 0, .invokevirtual 479, 3, 54, 5, [3180]), (115, 6, .iinc 1 1, 3, 0, 0, []), (118, 0, .goto (-43), 3, 0, 0, []), (121, 0, .return_, 1, 0, 0, [])]
def m_LinkHouse_fillPool : List aT := [(0, [(0, 2)], []), (2, [(0, 2), (1, 0)], []), (27, [(0, 2), (1, 0)], []), (67, [(0, 2), (1, 0)], []), (75, [(0, 2), (1, 0)], []), (115, [(0, 2), (1, 0)], [])]
def B_LinkHouse_fillPool_0 (X : Nat → List Int → AMem → Prop) (Q : Int → AMem → Prop) (σ : AMem) : Prop :=
  X 1 [1, 0] σ
def B_LinkHouse_fillPool_1 (X : Nat → List Int → AMem → Prop) (Q : Int → AMem → Prop) (x1 : Int) (σ : AMem) : Prop :=
  (if x1 < (σ 1 21) then
  0 ≤ x1 ∧ x1 < 64 ∧ (if ly_k (σ 8279 x1) = 27 then T_Part_poolAll [(σ 8279 x1)] σ (fun r1 σ2 => am_r32 (x1 + 1) ∧ X 1 [1, (x1 + 1)] σ2) else False)
  else
  X 2 [1, 0] σ)
def B_LinkHouse_fillPool_2 (X : Nat → List Int → AMem → Prop) (Q : Int → AMem → Prop) (x1 : Int) (σ : AMem) : Prop :=
  (if x1 < (σ 1 22) then
  T_LinkHouse_isPooled [1, x1] σ (fun r1 σ2 => (if r1 = 0 then
    X 3 [1, x1] σ2
    else
    0 ≤ x1 ∧ x1 < 1536 ∧ 0 ≤ (σ2 8282 x1) ∧ (σ2 8282 x1) < 64 ∧ 0 ≤ x1 ∧ x1 < 1536 ∧ T_Pool_takes [8340, (σ2 8279 (σ2 8282 x1)), (σ2 8285 x1)] σ2 (fun r3 σ4 => X 3 [1, x1] σ4)))
  else
  X 4 [1, 0] σ)
def B_LinkHouse_fillPool_3 (X : Nat → List Int → AMem → Prop) (Q : Int → AMem → Prop) (x1 : Int) (σ : AMem) : Prop :=
  am_r32 (x1 + 1) ∧ X 2 [1, (x1 + 1)] σ
def B_LinkHouse_fillPool_4 (X : Nat → List Int → AMem → Prop) (Q : Int → AMem → Prop) (x1 : Int) (σ : AMem) : Prop :=
  (if x1 < (σ 1 22) then
  T_LinkHouse_isPooled [1, x1] σ (fun r1 σ2 => (if r1 = 0 then
    X 5 [1, x1] σ2
    else
    0 ≤ x1 ∧ x1 < 1536 ∧ 0 ≤ (σ2 8282 x1) ∧ (σ2 8282 x1) < 64 ∧ 0 ≤ x1 ∧ x1 < 1536 ∧ T_Pool_lays [8340, (σ2 8279 (σ2 8282 x1)), (σ2 8285 x1)] σ2 (fun r3 σ4 => X 5 [1, x1] σ4)))
  else
  Q 0 σ)
def B_LinkHouse_fillPool_5 (X : Nat → List Int → AMem → Prop) (Q : Int → AMem → Prop) (x1 : Int) (σ : AMem) : Prop :=
  am_r32 (x1 + 1) ∧ X 4 [1, (x1 + 1)] σ
def B_LinkHouse_fillPool : (Nat → List Int → AMem → Prop) → (Int → AMem → Prop) → Nat → List Int → AMem → Prop := fun X Q j v σ => am_sel [(am_v1 (fun t σ => if t = 1 then B_LinkHouse_fillPool_0 X Q σ else False)), (am_v2 (fun t x1 σ => if t = 1 then B_LinkHouse_fillPool_1 X Q x1 σ else False)), (am_v2 (fun t x1 σ => if t = 1 then B_LinkHouse_fillPool_2 X Q x1 σ else False)), (am_v2 (fun t x1 σ => if t = 1 then B_LinkHouse_fillPool_3 X Q x1 σ else False)), (am_v2 (fun t x1 σ => if t = 1 then B_LinkHouse_fillPool_4 X Q x1 σ else False)), (am_v2 (fun t x1 σ => if t = 1 then B_LinkHouse_fillPool_5 X Q x1 σ else False))] j v σ
def T_LinkHouse_fillPool : List Int → AMem → (Int → AMem → Prop) → Prop := am_T B_LinkHouse_fillPool
abbrev y_LinkHouse_fillPool : MethodName := ⟨"LinkHouse", "fillPool", "()V"⟩
def a_LinkHouse_fillPool : AC := (55, (y_LinkHouse_fillPool, prog_1_method_32_code, 2, (Option.none : Option Jvm.ClassFile.FieldType)), [2], 3, false, { frames := 4, cells := 0, slots := 0, locals := 139 }, T_LinkHouse_fillPool)
set_option maxRecDepth 100000 in
theorem ms_LinkHouse_fillPool : am_MSp a_LinkHouse_fillPool := am_ms_v 3149 1 3148 101001 0 rfl (by decide +kernel)
abbrev k_LinkHouse_fillPool : List AC := [a_Part_poolAll, a_LinkHouse_isPooled, a_Pool_takes, a_Pool_lays]
set_option maxRecDepth 100000 in
theorem s_LinkHouse_fillPool : (am_chkR { frames := 4, cells := 0, slots := 0, locals := 139 } k_LinkHouse_fillPool && am_chkN c_LinkHouse_fillPool { frames := 4, cells := 0, slots := 0, locals := 139 } && c_LinkHouse_fillPool.all (am_chk "LinkHouse" prog_1_method_32_code 2 (Option.none : Option Jvm.ClassFile.FieldType) k_LinkHouse_fillPool) && c_LinkHouse_fillPool.all (am_chkL m_LinkHouse_fillPool) && decide (m_LinkHouse_fillPool[0]? = some (0, am_argp 0 [2], [])) && decide (am_argn [2] ≤ 2)) = true := by decide +kernel
set_option maxHeartbeats 150000 in
set_option maxRecDepth 100000 in
theorem h_LinkHouse_fillPool : ∀ X Q j v σ, B_LinkHouse_fillPool X Q j v σ → am_at GR k_LinkHouse_fillPool c_LinkHouse_fillPool m_LinkHouse_fillPool X Q 71 j v σ := fun X Q => am_sel_all (P := fun j v σ => am_at GR k_LinkHouse_fillPool c_LinkHouse_fillPool m_LinkHouse_fillPool X Q 71 j v σ) (⟨(am_v1_of (fun t σ h => am_tk (fun e => by subst e; exact fun h => h) h)), ⟨(am_v2_of (fun t x1 σ h => am_tk (fun e => by subst e; exact fun h => h) h)), ⟨(am_v2_of (fun t x1 σ h => am_tk (fun e => by subst e; exact fun h => h) h)), ⟨(am_v2_of (fun t x1 σ h => am_tk (fun e => by subst e; exact fun h => h) h)), ⟨(am_v2_of (fun t x1 σ h => am_tk (fun e => by subst e; exact fun h => h) h)), ⟨(am_v2_of (fun t x1 σ h => am_tk (fun e => by subst e; exact fun h => h) h)), trivial⟩⟩⟩⟩⟩⟩)
set_option maxRecDepth 100000 in
theorem S_LinkHouse_fillPool (l : Launch) (w : AW) : am_S l w GR a_LinkHouse_fillPool := am_sound (rt := 3) (cal := k_LinkHouse_fillPool) 55 y_LinkHouse_fillPool prog_1_method_32_code 2 (Option.none : Option Jvm.ClassFile.FieldType) [2] false { frames := 4, cells := 0, slots := 0, locals := 139 } B_LinkHouse_fillPool "LinkHouse" c_LinkHouse_fillPool m_LinkHouse_fillPool 71 ms_LinkHouse_fillPool (by decide +kernel) rfl rfl (am_cal (S_Part_poolAll l w) (am_cal (S_LinkHouse_isPooled l w) (am_cal (S_Pool_takes l w) (am_cal (S_Pool_lays l w) (fun _ h => absurd h List.not_mem_nil))))) s_LinkHouse_fillPool h_LinkHouse_fillPool
set_option maxRecDepth 100000 in
theorem of_LinkHouse_fillPool {Q : Int → AMem → Prop} {σ : AMem} (h : ∀ X : Nat → List Int → AMem → Prop, (∀ (σ : AMem), B_LinkHouse_fillPool_0 X Q σ → X 0 [1] σ) → (∀ (x1 : Int) (σ : AMem), B_LinkHouse_fillPool_1 X Q x1 σ → X 1 [1, x1] σ) → (∀ (x1 : Int) (σ : AMem), B_LinkHouse_fillPool_2 X Q x1 σ → X 2 [1, x1] σ) → (∀ (x1 : Int) (σ : AMem), B_LinkHouse_fillPool_3 X Q x1 σ → X 3 [1, x1] σ) → (∀ (x1 : Int) (σ : AMem), B_LinkHouse_fillPool_4 X Q x1 σ → X 4 [1, x1] σ) → (∀ (x1 : Int) (σ : AMem), B_LinkHouse_fillPool_5 X Q x1 σ → X 5 [1, x1] σ) → X 0 [1] σ) : T_LinkHouse_fillPool [1] σ Q := fun X hX => h X (fun σ h => hX 0 [1] σ h) (fun x1 σ h => hX 1 [1, x1] σ h) (fun x1 σ h => hX 2 [1, x1] σ h) (fun x1 σ h => hX 3 [1, x1] σ h) (fun x1 σ h => hX 4 [1, x1] σ h) (fun x1 σ h => hX 5 [1, x1] σ h)
def c_Part_bySlot : List aE := [(0, 1, .iload_n 0, 1, 0, 0, []), (1, 0, .bipush 9, 2, 0, 0, []), (3, 0, .if_icmp .eq 21, 3, 0, 0, []), (6, 0, .iload_n 0, 1, 0, 0, []), (7, 0, .bipush 22, 2, 0, 0, []), (9, 0, .if_icmp .eq 15, 3, 0, 0, []), (12, 0, .iload_n 0, 1, 0, 0, []), (13, 0, .bipush 41, 2, 0, 0, []), (15, 0, .if_icmp .eq 9, 3, 0, 0, []), (18, 0, .iload_n 0, 1, 0, 0, []), (19, 0, .bipush 42, 2, 0, 0, []), (21, 0, .if_icmp .ne 7, 3, 0, 0, []), (24, 0, .iconst 1, 1, 0, 0, []), (25, 0, .goto 4, 3, 0, 0, []), (28, 0, .iconst 0, 1, 0, 0, []), (29, 0, .ireturn, 1, 1, 0, [])]
def m_Part_bySlot : List aT := [(0, [(0, 0)], [])]
def B_Part_bySlot_0 (X : Nat → List Int → AMem → Prop) (Q : Int → AMem → Prop) (x0 : Int) (σ : AMem) : Prop :=
  (if x0 = 9 then
  Q 1 σ
  else
  (if x0 = 22 then
    Q 1 σ
    else
    (if x0 = 41 then
      Q 1 σ
      else
      (if x0 = 42 then
        Q 1 σ
        else
        Q 0 σ))))
def B_Part_bySlot : (Nat → List Int → AMem → Prop) → (Int → AMem → Prop) → Nat → List Int → AMem → Prop := fun X Q j v σ => am_sel [(am_v1 (fun x0 σ => B_Part_bySlot_0 X Q x0 σ))] j v σ
def T_Part_bySlot : List Int → AMem → (Int → AMem → Prop) → Prop := am_T B_Part_bySlot
abbrev y_Part_bySlot : MethodName := ⟨"LinkHouse$Part", "bySlot", "(I)Z"⟩
def a_Part_bySlot : AC := (56, (y_Part_bySlot, prog_6_method_16_code, 1, (Option.some Jvm.ClassFile.FieldType.boolean)), [0], 0, true, { frames := 0, cells := 0, slots := 0, locals := 0 }, T_Part_bySlot)
set_option maxRecDepth 100000 in
theorem ms_Part_bySlot : am_MSp a_Part_bySlot := am_ms_s 3194 8 3193 rfl (by decide +kernel)
abbrev k_Part_bySlot : List AC := []
set_option maxRecDepth 100000 in
theorem s_Part_bySlot : (am_chkR { frames := 0, cells := 0, slots := 0, locals := 0 } k_Part_bySlot && am_chkN c_Part_bySlot { frames := 0, cells := 0, slots := 0, locals := 0 } && c_Part_bySlot.all (am_chk "LinkHouse$Part" prog_6_method_16_code 1 (Option.some Jvm.ClassFile.FieldType.boolean) k_Part_bySlot) && c_Part_bySlot.all (am_chkL m_Part_bySlot) && decide (m_Part_bySlot[0]? = some (0, am_argp 0 [0], [])) && decide (am_argn [0] ≤ 1)) = true := by decide +kernel
set_option maxHeartbeats 150000 in
set_option maxRecDepth 100000 in
theorem h_Part_bySlot : ∀ X Q j v σ, B_Part_bySlot X Q j v σ → am_at GR k_Part_bySlot c_Part_bySlot m_Part_bySlot X Q 21 j v σ := fun X Q => am_sel_all (P := fun j v σ => am_at GR k_Part_bySlot c_Part_bySlot m_Part_bySlot X Q 21 j v σ) (⟨(am_v1_of (fun x0 σ h => h)), trivial⟩)
set_option maxRecDepth 100000 in
theorem S_Part_bySlot (l : Launch) (w : AW) : am_S l w GR a_Part_bySlot := am_sound (rt := 0) (cal := k_Part_bySlot) 56 y_Part_bySlot prog_6_method_16_code 1 (Option.some Jvm.ClassFile.FieldType.boolean) [0] true { frames := 0, cells := 0, slots := 0, locals := 0 } B_Part_bySlot "LinkHouse$Part" c_Part_bySlot m_Part_bySlot 21 ms_Part_bySlot (by decide +kernel) rfl rfl (fun _ h => absurd h List.not_mem_nil) s_Part_bySlot h_Part_bySlot
set_option maxRecDepth 100000 in
theorem of_Part_bySlot {Q : Int → AMem → Prop} {x0 : Int} {σ : AMem} (h : ∀ X : Nat → List Int → AMem → Prop, (∀ (x0 : Int) (σ : AMem), B_Part_bySlot_0 X Q x0 σ → X 0 [x0] σ) → X 0 [x0] σ) : T_Part_bySlot [x0] σ Q := fun X hX => h X (fun x0 σ h => hX 0 [x0] σ h)
set_option maxRecDepth 100000 in
theorem iff_Part_bySlot {Q : Int → AMem → Prop} {X : Nat → List Int → AMem → Prop} {x0 : Int} {σ : AMem} : T_Part_bySlot [x0] σ Q ↔ B_Part_bySlot_0 X Q x0 σ := ⟨fun h => h (fun j v σ => B_Part_bySlot X Q j v σ) (fun _ _ _ q => q), fun h _ hX => hX 0 _ _ h⟩
def c_LinkHouse_isNamed : List aE := [(0, 1, .iload_n 1, 1, 0, 0, []), (1, 0, .ifCond .le 16, 3, 0, 0, []), (4, 0, .aload_n 0, 1, 0, 0, []), (5, 0, .getfield 266, 3, 7, 16, [2, 0, 1100]), (8, 0, .iload_n 1, 1, 0, 0, []), (9, 0, .iaload, 1, 0, 0, []), (10, 0, .ifCond .eq 7, 3, 0, 0, []), (13, 0, .iconst 1, 1, 0, 0, []), (14, 0, .goto 4, 3, 0, 0, []), (17, 0, .iconst 0, 1, 0, 0, []), (18, 0, .ireturn, 1, 1, 0, [])]
def m_LinkHouse_isNamed : List aT := [(0, [(0, 2), (1, 0)], [])]
def B_LinkHouse_isNamed_0 (X : Nat → List Int → AMem → Prop) (Q : Int → AMem → Prop) (x0 x1 : Int) (σ : AMem) : Prop :=
  (if 0 < x1 then
  (if ly_k x0 = 27 then (if ly_k (am_rd GR σ x0 16) = 1 then 0 ≤ x1 ∧ x1 < ly_l (am_rd GR σ x0 16) ∧ (if (σ (am_rd GR σ x0 16) x1) = 0 then
    Q 0 σ
    else
    Q 1 σ) else False) else False)
  else
  Q 0 σ)
def B_LinkHouse_isNamed : (Nat → List Int → AMem → Prop) → (Int → AMem → Prop) → Nat → List Int → AMem → Prop := fun X Q j v σ => am_sel [(am_v2 (fun x0 x1 σ => B_LinkHouse_isNamed_0 X Q x0 x1 σ))] j v σ
def T_LinkHouse_isNamed : List Int → AMem → (Int → AMem → Prop) → Prop := am_T B_LinkHouse_isNamed
abbrev y_LinkHouse_isNamed : MethodName := ⟨"LinkHouse", "isNamed", "(LLinkHouse$Part;I)Z"⟩
def a_LinkHouse_isNamed : AC := (57, (y_LinkHouse_isNamed, prog_1_method_21_code, 2, (Option.some Jvm.ClassFile.FieldType.boolean)), [2, 0], 0, true, { frames := 0, cells := 0, slots := 0, locals := 0 }, T_LinkHouse_isNamed)
set_option maxRecDepth 100000 in
theorem ms_LinkHouse_isNamed : am_MSp a_LinkHouse_isNamed := am_ms_s 3206 1 3205 rfl (by decide +kernel)
abbrev k_LinkHouse_isNamed : List AC := []
set_option maxRecDepth 100000 in
theorem s_LinkHouse_isNamed : (am_chkR { frames := 0, cells := 0, slots := 0, locals := 0 } k_LinkHouse_isNamed && am_chkN c_LinkHouse_isNamed { frames := 0, cells := 0, slots := 0, locals := 0 } && c_LinkHouse_isNamed.all (am_chk "LinkHouse" prog_1_method_21_code 2 (Option.some Jvm.ClassFile.FieldType.boolean) k_LinkHouse_isNamed) && c_LinkHouse_isNamed.all (am_chkL m_LinkHouse_isNamed) && decide (m_LinkHouse_isNamed[0]? = some (0, am_argp 0 [2, 0], [])) && decide (am_argn [2, 0] ≤ 2)) = true := by decide +kernel
set_option maxHeartbeats 150000 in
set_option maxRecDepth 100000 in
theorem h_LinkHouse_isNamed : ∀ X Q j v σ, B_LinkHouse_isNamed X Q j v σ → am_at GR k_LinkHouse_isNamed c_LinkHouse_isNamed m_LinkHouse_isNamed X Q 20 j v σ := fun X Q => am_sel_all (P := fun j v σ => am_at GR k_LinkHouse_isNamed c_LinkHouse_isNamed m_LinkHouse_isNamed X Q 20 j v σ) (⟨(am_v2_of (fun x0 x1 σ h => h)), trivial⟩)
set_option maxRecDepth 100000 in
theorem S_LinkHouse_isNamed (l : Launch) (w : AW) : am_S l w GR a_LinkHouse_isNamed := am_sound (rt := 0) (cal := k_LinkHouse_isNamed) 57 y_LinkHouse_isNamed prog_1_method_21_code 2 (Option.some Jvm.ClassFile.FieldType.boolean) [2, 0] true { frames := 0, cells := 0, slots := 0, locals := 0 } B_LinkHouse_isNamed "LinkHouse" c_LinkHouse_isNamed m_LinkHouse_isNamed 20 ms_LinkHouse_isNamed (by decide +kernel) rfl rfl (fun _ h => absurd h List.not_mem_nil) s_LinkHouse_isNamed h_LinkHouse_isNamed
set_option maxRecDepth 100000 in
theorem of_LinkHouse_isNamed {Q : Int → AMem → Prop} {x0 x1 : Int} {σ : AMem} (h : ∀ X : Nat → List Int → AMem → Prop, (∀ (x0 x1 : Int) (σ : AMem), B_LinkHouse_isNamed_0 X Q x0 x1 σ → X 0 [x0, x1] σ) → X 0 [x0, x1] σ) : T_LinkHouse_isNamed [x0, x1] σ Q := fun X hX => h X (fun x0 x1 σ h => hX 0 [x0, x1] σ h)
set_option maxRecDepth 100000 in
theorem iff_LinkHouse_isNamed {Q : Int → AMem → Prop} {X : Nat → List Int → AMem → Prop} {x0 x1 : Int} {σ : AMem} : T_LinkHouse_isNamed [x0, x1] σ Q ↔ B_LinkHouse_isNamed_0 X Q x0 x1 σ := ⟨fun h => h (fun j v σ => B_LinkHouse_isNamed X Q j v σ) (fun _ _ _ q => q), fun h _ hX => hX 0 _ _ h⟩
def c_LinkHouse_isLaid : List aE := [(0, 1, .aload_n 0, 1, 0, 0, []), (1, 0, .iload_n 1, 1, 0, 0, []), (2, 0, .invokestatic 423, 3, 57, 0, [3204]), (5, 0, .ifCond .ne 34, 3, 0, 0, []), (8, 0, .iload_n 1, 1, 0, 0, []), (9, 0, .ifCond .le 28, 3, 0, 0, []), (12, 0, .aload_n 0, 1, 0, 0, []), (13, 0, .iload_n 1, 1, 0, 0, []), (14, 0, .invokevirtual 348, 3, 26, 7, [3115]), (17, 0, .ifCond .eq 20, 3, 0, 0, []), (20, 0, .aload_n 0, 1, 0, 0, []), (21, 0, .aload_n 0, 1, 0, 0, []), (22, 0, .getfield 351, 3, 7, 17, [2, 0, 1102]), (25, 0, .iload_n 1, 1, 0, 0, []), (26, 0, .iaload, 1, 0, 0, []), (27, 0, .invokevirtual 433, 3, 42, 7, [3133]), (30, 0, .ifCond .eq 7, 3, 0, 0, []), (33, 0, .iconst 1, 1, 0, 0, []), (34, 0, .goto 4, 3, 0, 0, []), (37, 0, .iconst 0, 1, 0, 0, []), (38, 0, .ireturn, 1, 1, 0, []), (39, 0, .aload_n 0, 1, 0, 0, []), (40, 0, .getfield 269, 3, 7, 25, [2, 0, 1118]), (43, 0, .iload_n 1, 1, 0, 0, []), (44, 0, .aaload, 1, 6, 0, []), (45, 0, .astore_n 2, 1, 0, 0, []), (46, 0, .aload_n 2, 1, 0, 0, []), (47, 0, .getfield 292, 3, 3, 2, [0, 0, 120]), (50, 0, .iconst 2, 1, 0, 0, []), (51, 0, .if_icmp .ne 5, 3, 0, 0, []), (54, 0, .iconst 1, 1, 0, 0, []), (55, 0, .ireturn, 1, 1, 0, []), (56, 0, .aload_n 2, 1, 0, 0, []), (57, 0, .getfield 292, 3, 3, 2, [0, 0, 120]), (60, 0, .ifCond .le 28, 3, 0, 0, []), (63, 0, .aload_n 2, 1, 0, 0, []), (64, 0, .getfield 369, 3, 3, 11, [2, 0, 141]), (67, 0, .ifnull 21, 3, 0, 0, []), (70, 0, .aload_n 2, 1, 0, 0, []), (71, 0, .getfield 369, 3, 3, 11, [2, 0, 141]), (74, 0, .aload_n 2, 1, 0, 0, []), (75, 0, .getfield 373, 3, 3, 3, [0, 0, 123]), (78, 0, .invokevirtual 348, 3, 26, 7, [3115]), (81, 0, .ifCond .eq 7, 3, 0, 0, []), (84, 0, .iconst 1, 1, 0, 0, []), (85, 0, .goto 4, 3, 0, 0, []), (88, 0, .iconst 0, 1, 0, 0, []), (89, 0, .ireturn, 1, 1, 0, [])]
def m_LinkHouse_isLaid : List aT := [(0, [(0, 2), (1, 0)], [])]
def B_LinkHouse_isLaid_0 (X : Nat → List Int → AMem → Prop) (Q : Int → AMem → Prop) (x0 x1 : Int) (σ : AMem) : Prop :=
  T_LinkHouse_isNamed [x0, x1] σ (fun r1 σ2 => (if r1 = 0 then
  (if 0 < x1 then
    (if ly_k x0 = 27 then T_Part_isIn [x0, x1] σ2 (fun r6 σ7 => (if r6 = 0 then
      Q 0 σ7
      else
      (if ly_k x0 = 27 then (if ly_k (am_rd GR σ7 x0 17) = 1 then 0 ≤ x1 ∧ x1 < ly_l (am_rd GR σ7 x0 17) ∧ (if ly_k x0 = 27 then T_Part_isKept [x0, (σ7 (am_rd GR σ7 x0 17) x1)] σ7 (fun r8 σ9 => (if r8 = 0 then
        Q 0 σ9
        else
        Q 1 σ9)) else False) else False) else False))) else False)
    else
    Q 0 σ2)
  else
  (if ly_k x0 = 27 then (if ly_k (am_rd GR σ2 x0 25) = 6 then 0 ≤ x1 ∧ x1 < ly_l (am_rd GR σ2 x0 25) ∧ am_let (σ2 (am_rd GR σ2 x0 25) x1) (fun y3 => (if ly_k y3 = 23 then (if (am_rd GR σ2 y3 2) = 2 then
    Q 1 σ2
    else
    (if ly_k y3 = 23 then (if 0 < (am_rd GR σ2 y3 2) then
      (if ly_k y3 = 23 then (if (am_rd GR σ2 y3 11) = 0 then
        Q 0 σ2
        else
        (if ly_k y3 = 23 then (if ly_k y3 = 23 then (if ly_k (am_rd GR σ2 y3 11) = 27 then T_Part_isIn [(am_rd GR σ2 y3 11), (am_rd GR σ2 y3 3)] σ2 (fun r4 σ5 => (if r4 = 0 then
          Q 0 σ5
          else
          Q 1 σ5)) else False) else False) else False)) else False)
      else
      Q 0 σ2) else False)) else False)) else False) else False)))
def B_LinkHouse_isLaid : (Nat → List Int → AMem → Prop) → (Int → AMem → Prop) → Nat → List Int → AMem → Prop := fun X Q j v σ => am_sel [(am_v2 (fun x0 x1 σ => B_LinkHouse_isLaid_0 X Q x0 x1 σ))] j v σ
def T_LinkHouse_isLaid : List Int → AMem → (Int → AMem → Prop) → Prop := am_T B_LinkHouse_isLaid
abbrev y_LinkHouse_isLaid : MethodName := ⟨"LinkHouse", "isLaid", "(LLinkHouse$Part;I)Z"⟩
def a_LinkHouse_isLaid : AC := (58, (y_LinkHouse_isLaid, prog_1_method_24_code, 3, (Option.some Jvm.ClassFile.FieldType.boolean)), [2, 0], 0, true, { frames := 1, cells := 0, slots := 0, locals := 29 }, T_LinkHouse_isLaid)
set_option maxRecDepth 100000 in
theorem ms_LinkHouse_isLaid : am_MSp a_LinkHouse_isLaid := am_ms_s 3203 1 3202 rfl (by decide +kernel)
abbrev k_LinkHouse_isLaid : List AC := [a_LinkHouse_isNamed, a_Part_isIn, a_Part_isKept]
set_option maxRecDepth 100000 in
theorem s_LinkHouse_isLaid : (am_chkR { frames := 1, cells := 0, slots := 0, locals := 29 } k_LinkHouse_isLaid && am_chkN c_LinkHouse_isLaid { frames := 1, cells := 0, slots := 0, locals := 29 } && c_LinkHouse_isLaid.all (am_chk "LinkHouse" prog_1_method_24_code 3 (Option.some Jvm.ClassFile.FieldType.boolean) k_LinkHouse_isLaid) && c_LinkHouse_isLaid.all (am_chkL m_LinkHouse_isLaid) && decide (m_LinkHouse_isLaid[0]? = some (0, am_argp 0 [2, 0], [])) && decide (am_argn [2, 0] ≤ 3)) = true := by decide +kernel
set_option maxHeartbeats 150000 in
set_option maxRecDepth 100000 in
theorem h_LinkHouse_isLaid : ∀ X Q j v σ, B_LinkHouse_isLaid X Q j v σ → am_at GR k_LinkHouse_isLaid c_LinkHouse_isLaid m_LinkHouse_isLaid X Q 53 j v σ := fun X Q => am_sel_all (P := fun j v σ => am_at GR k_LinkHouse_isLaid c_LinkHouse_isLaid m_LinkHouse_isLaid X Q 53 j v σ) (⟨(am_v2_of (fun x0 x1 σ h => h)), trivial⟩)
set_option maxRecDepth 100000 in
theorem S_LinkHouse_isLaid (l : Launch) (w : AW) : am_S l w GR a_LinkHouse_isLaid := am_sound (rt := 0) (cal := k_LinkHouse_isLaid) 58 y_LinkHouse_isLaid prog_1_method_24_code 3 (Option.some Jvm.ClassFile.FieldType.boolean) [2, 0] true { frames := 1, cells := 0, slots := 0, locals := 29 } B_LinkHouse_isLaid "LinkHouse" c_LinkHouse_isLaid m_LinkHouse_isLaid 53 ms_LinkHouse_isLaid (by decide +kernel) rfl rfl (am_cal (S_LinkHouse_isNamed l w) (am_cal (S_Part_isIn l w) (am_cal (S_Part_isKept l w) (fun _ h => absurd h List.not_mem_nil)))) s_LinkHouse_isLaid h_LinkHouse_isLaid
set_option maxRecDepth 100000 in
theorem of_LinkHouse_isLaid {Q : Int → AMem → Prop} {x0 x1 : Int} {σ : AMem} (h : ∀ X : Nat → List Int → AMem → Prop, (∀ (x0 x1 : Int) (σ : AMem), B_LinkHouse_isLaid_0 X Q x0 x1 σ → X 0 [x0, x1] σ) → X 0 [x0, x1] σ) : T_LinkHouse_isLaid [x0, x1] σ Q := fun X hX => h X (fun x0 x1 σ h => hX 0 [x0, x1] σ h)
set_option maxRecDepth 100000 in
theorem iff_LinkHouse_isLaid {Q : Int → AMem → Prop} {X : Nat → List Int → AMem → Prop} {x0 x1 : Int} {σ : AMem} : T_LinkHouse_isLaid [x0, x1] σ Q ↔ B_LinkHouse_isLaid_0 X Q x0 x1 σ := ⟨fun h => h (fun j v σ => B_LinkHouse_isLaid X Q j v σ) (fun _ _ _ q => q), fun h _ hX => hX 0 _ _ h⟩
def c_LinkHouse_ahead : List aE := [(0, 1, .aload_n 0, 1, 0, 0, []), (1, 0, .aload_n 0, 1, 0, 0, []), (2, 0, .getfield 393, 3, 7, 11, [2, 0, 1089]), (5, 0, .iload_n 1, 1, 0, 0, []), (6, 0, .iaload, 1, 0, 0, []), (7, 0, .i2l, 1, 0, 0, []), (8, 0, .aload_n 0, 1, 0, 0, []), (9, 0, .lload_n 2, 1, 0, 0, []), (10, 0, .bipush 8, 2, 0, 0, []), (12, 0, .invokevirtual 404, 3, 11, 7, [3126]), (15, 0, .ladd, 1, 0, 0, []), (16, 0, .lload 4, 2, 0, 0, []), (18, 0, .lsub, 1, 0, 0, []), (19, 0, .iconst 1, 1, 0, 0, []), (20, 0, .invokevirtual 404, 3, 11, 7, [3126]), (23, 0, .l2i, 1, 0, 0, []), (24, 0, .ireturn, 1, 0, 0, [])]
def m_LinkHouse_ahead : List aT := [(0, [(0, 2), (1, 0), (2, 1), (4, 1)], [])]
def B_LinkHouse_ahead_0 (X : Nat → List Int → AMem → Prop) (Q : Int → AMem → Prop) (x0 x1 x2 x4 : Int) (σ : AMem) : Prop :=
  (if ly_k x0 = 27 then (if ly_k (am_rd GR σ x0 11) = 1 then 0 ≤ x1 ∧ x1 < ly_l (am_rd GR σ x0 11) ∧ (if ly_k x0 = 27 then T_Part_number [x0, x2, 8] σ (fun r1 σ2 => (if ly_k x0 = 27 then T_Part_number [x0, (w64 ((w64 ((σ (am_rd GR σ x0 11) x1) + r1)) - x4)), 1] σ2 (fun r3 σ4 => Q (w32 r3) σ4) else False)) else False) else False) else False)
def B_LinkHouse_ahead : (Nat → List Int → AMem → Prop) → (Int → AMem → Prop) → Nat → List Int → AMem → Prop := fun X Q j v σ => am_sel [(am_v4 (fun x0 x1 x2 x4 σ => B_LinkHouse_ahead_0 X Q x0 x1 x2 x4 σ))] j v σ
def T_LinkHouse_ahead : List Int → AMem → (Int → AMem → Prop) → Prop := am_T B_LinkHouse_ahead
abbrev y_LinkHouse_ahead : MethodName := ⟨"LinkHouse", "ahead", "(LLinkHouse$Part;IJJ)I"⟩
def a_LinkHouse_ahead : AC := (59, (y_LinkHouse_ahead, prog_1_method_25_code, 6, (Option.some Jvm.ClassFile.FieldType.int)), [2, 0, 1, 1], 0, true, { frames := 1, cells := 0, slots := 0, locals := 34 }, T_LinkHouse_ahead)
set_option maxRecDepth 100000 in
theorem ms_LinkHouse_ahead : am_MSp a_LinkHouse_ahead := am_ms_s 3209 1 3208 rfl (by decide +kernel)
abbrev k_LinkHouse_ahead : List AC := [a_Part_number]
set_option maxRecDepth 100000 in
theorem s_LinkHouse_ahead : (am_chkR { frames := 1, cells := 0, slots := 0, locals := 34 } k_LinkHouse_ahead && am_chkN c_LinkHouse_ahead { frames := 1, cells := 0, slots := 0, locals := 34 } && c_LinkHouse_ahead.all (am_chk "LinkHouse" prog_1_method_25_code 6 (Option.some Jvm.ClassFile.FieldType.int) k_LinkHouse_ahead) && c_LinkHouse_ahead.all (am_chkL m_LinkHouse_ahead) && decide (m_LinkHouse_ahead[0]? = some (0, am_argp 0 [2, 0, 1, 1], [])) && decide (am_argn [2, 0, 1, 1] ≤ 6)) = true := by decide +kernel
set_option maxHeartbeats 150000 in
set_option maxRecDepth 100000 in
theorem h_LinkHouse_ahead : ∀ X Q j v σ, B_LinkHouse_ahead X Q j v σ → am_at GR k_LinkHouse_ahead c_LinkHouse_ahead m_LinkHouse_ahead X Q 22 j v σ := fun X Q => am_sel_all (P := fun j v σ => am_at GR k_LinkHouse_ahead c_LinkHouse_ahead m_LinkHouse_ahead X Q 22 j v σ) (⟨(am_v4_of (fun x0 x1 x2 x4 σ h => h)), trivial⟩)
set_option maxRecDepth 100000 in
theorem S_LinkHouse_ahead (l : Launch) (w : AW) : am_S l w GR a_LinkHouse_ahead := am_sound (rt := 0) (cal := k_LinkHouse_ahead) 59 y_LinkHouse_ahead prog_1_method_25_code 6 (Option.some Jvm.ClassFile.FieldType.int) [2, 0, 1, 1] true { frames := 1, cells := 0, slots := 0, locals := 34 } B_LinkHouse_ahead "LinkHouse" c_LinkHouse_ahead m_LinkHouse_ahead 22 ms_LinkHouse_ahead (by decide +kernel) rfl rfl (am_cal (S_Part_number l w) (fun _ h => absurd h List.not_mem_nil)) s_LinkHouse_ahead h_LinkHouse_ahead
set_option maxRecDepth 100000 in
theorem of_LinkHouse_ahead {Q : Int → AMem → Prop} {x0 x1 x2 x4 : Int} {σ : AMem} (h : ∀ X : Nat → List Int → AMem → Prop, (∀ (x0 x1 x2 x4 : Int) (σ : AMem), B_LinkHouse_ahead_0 X Q x0 x1 x2 x4 σ → X 0 [x0, x1, x2, x4] σ) → X 0 [x0, x1, x2, x4] σ) : T_LinkHouse_ahead [x0, x1, x2, x4] σ Q := fun X hX => h X (fun x0 x1 x2 x4 σ h => hX 0 [x0, x1, x2, x4] σ h)
set_option maxRecDepth 100000 in
theorem iff_LinkHouse_ahead {Q : Int → AMem → Prop} {X : Nat → List Int → AMem → Prop} {x0 x1 x2 x4 : Int} {σ : AMem} : T_LinkHouse_ahead [x0, x1, x2, x4] σ Q ↔ B_LinkHouse_ahead_0 X Q x0 x1 x2 x4 σ := ⟨fun h => h (fun j v σ => B_LinkHouse_ahead X Q j v σ) (fun _ _ _ q => q), fun h _ hX => hX 0 _ _ h⟩
def c_LinkHouse_isShort : List aE := [(0, 1, .aload_n 0, 1, 0, 0, []), (1, 0, .lload_n 2, 1, 0, 0, []), (2, 0, .ldc2_w 179, 3, 8, 0, [3127]), (5, 0, .ladd, 1, 0, 0, []), (6, 0, .iconst 4, 1, 0, 0, []), (7, 0, .invokevirtual 404, 3, 11, 7, [3126]), (10, 0, .l2i, 1, 0, 0, []), (11, 0, .istore 4, 2, 0, 0, []), (13, 0, .aload_n 0, 1, 0, 0, []), (14, 0, .lload_n 2, 1, 0, 0, []), (15, 0, .ldc2_w 402, 3, 12, 0, [3125]), (18, 0, .ladd, 1, 0, 0, []), (19, 0, .iconst 4, 1, 0, 0, []), (20, 0, .invokevirtual 404, 3, 11, 7, [3126]), (23, 0, .l2i, 1, 0, 0, []), (24, 0, .istore 5, 2, 0, 0, []), (26, 0, .iload 4, 2, 0, 0, []), (28, 0, .bipush 41, 2, 0, 0, []), (30, 0, .if_icmp .eq 10, 3, 0, 0, []), (33, 0, .iload 4, 2, 0, 0, []), (35, 0, .bipush 42, 2, 0, 0, []), (37, 0, .if_icmp .ne 44, 3, 0, 0, []), (40, 2, .aload_n 0, 1, 0, 0, []), (41, 0, .lload_n 2, 1, 0, 0, []), (42, 0, .ldc2_w 436, 3, 16, 0, [3198]), (45, 0, .ladd, 1, 0, 0, []), (46, 0, .bipush 8, 2, 0, 0, []), (48, 0, .invokevirtual 404, 3, 11, 7, [3126]), (51, 0, .ldc2_w 438, 3, 4, 1, [3199]), (54, 0, .lcmp, 1, 0, 0, []), (55, 0, .ifCond .ne 26, 3, 0, 0, []), (58, 0, .aload_n 0, 1, 0, 0, []), (59, 0, .lload_n 2, 1, 0, 0, []), (60, 0, .bipush 8, 2, 0, 0, []), (62, 0, .invokevirtual 404, 3, 11, 7, [3126]), (65, 0, .ldc2_w 440, 3, 2, 0, [3200]), (68, 0, .lcmp, 1, 0, 0, []), (69, 0, .ifCond .lt 12, 3, 0, 0, []), (72, 0, .aload_n 0, 1, 0, 0, []), (73, 0, .iload 5, 2, 0, 0, []), (75, 0, .invokestatic 442, 3, 58, 0, [3201]), (78, 0, .ifCond .ne 5, 3, 0, 0, []), (81, 0, .iconst 0, 1, 0, 0, []), (82, 0, .ireturn, 1, 1, 0, []), (83, 0, .aload_n 0, 1, 0, 0, []), (84, 0, .iload_n 1, 1, 0, 0, []), (85, 0, .lload_n 2, 1, 0, 0, []), (86, 0, .ldc2_w 440, 3, 2, 0, [3200]), (89, 0, .invokestatic 445, 3, 59, 0, [3207]), (92, 0, .istore 6, 2, 0, 0, []), (94, 0, .aload_n 0, 1, 0, 0, []), (95, 0, .iload_n 1, 1, 0, 0, []), (96, 0, .lload_n 2, 1, 0, 0, []), (97, 0, .lconst 1, 1, 0, 0, []), (98, 0, .invokestatic 445, 3, 59, 0, [3207]), (101, 0, .istore 7, 2, 0, 0, []), (103, 0, .iload 6, 2, 0, 0, []), (105, 0, .sipush 139, 3, 0, 0, []), (108, 0, .if_icmp .ne 14, 3, 0, 0, []), (111, 0, .iload 7, 2, 0, 0, []), (113, 0, .iconst 5, 1, 0, 0, []), (114, 0, .ixor, 1, 0, 0, []), (115, 0, .sipush 199, 3, 0, 0, []), (118, 0, .iand, 1, 0, 0, []), (119, 0, .ifCond .eq 32, 3, 0, 0, []), (122, 3, .iload 4, 2, 0, 0, []), (124, 0, .bipush 41, 2, 0, 0, []), (126, 0, .if_icmp .ne 29, 3, 0, 0, []), (129, 0, .iload 6, 2, 0, 0, []), (131, 0, .sipush 255, 3, 0, 0, []), (134, 0, .if_icmp .ne 21, 3, 0, 0, []), (137, 0, .iload 7, 2, 0, 0, []), (139, 0, .bipush 21, 2, 0, 0, []), (141, 0, .if_icmp .eq 10, 3, 0, 0, []), (144, 0, .iload 7, 2, 0, 0, []), (146, 0, .bipush 37, 2, 0, 0, []), (148, 0, .if_icmp .ne 7, 3, 0, 0, []), (151, 0, .iconst 1, 1, 0, 0, []), (152, 0, .goto 4, 3, 0, 0, []), (155, 0, .iconst 0, 1, 0, 0, []), (156, 0, .ireturn, 1, 1, 0, [])]
def m_LinkHouse_isShort : List aT := [(0, [(0, 2), (1, 0), (2, 1)], []), (40, [(0, 2), (1, 0), (2, 1), (4, 0), (5, 0)], []), (122, [(4, 0), (6, 0), (7, 0)], [])]
def B_LinkHouse_isShort_0 (X : Nat → List Int → AMem → Prop) (Q : Int → AMem → Prop) (x0 x1 x2 : Int) (σ : AMem) : Prop :=
  (if ly_k x0 = 27 then T_Part_number [x0, (w64 (x2 + 8)), 4] σ (fun r1 σ2 => (if ly_k x0 = 27 then T_Part_number [x0, (w64 (x2 + 12)), 4] σ2 (fun r3 σ4 => (if (w32 r1) = 41 then
  X 1 [x0, x1, x2, (w32 r1), (w32 r3)] σ4
  else
  (if (w32 r1) = 42 then
    X 1 [x0, x1, x2, (w32 r1), (w32 r3)] σ4
    else
    Q 0 σ4))) else False)) else False)
def B_LinkHouse_isShort_1 (X : Nat → List Int → AMem → Prop) (Q : Int → AMem → Prop) (x0 x1 x2 x4 x5 : Int) (σ : AMem) : Prop :=
  (if ly_k x0 = 27 then T_Part_number [x0, (w64 (x2 + 16)), 8] σ (fun r1 σ2 => (if r1 = (-4) then
  (if ly_k x0 = 27 then T_Part_number [x0, x2, 8] σ2 (fun r3 σ4 => (if r3 < 2 then
    Q 0 σ4
    else
    T_LinkHouse_isLaid [x0, x5] σ4 (fun r5 σ6 => (if r5 = 0 then
      Q 0 σ6
      else
      T_LinkHouse_ahead [x0, x1, x2, 2] σ6 (fun r7 σ8 => T_LinkHouse_ahead [x0, x1, x2, 1] σ8 (fun r9 σ10 => (if r7 = 139 then
        (if (i_and (i_xor r9 5) 199) = 0 then
          Q 1 σ10
          else
          X 2 [x4, r7, r9] σ10)
        else
        X 2 [x4, r7, r9] σ10))))))) else False)
  else
  Q 0 σ2)) else False)
def B_LinkHouse_isShort_2 (X : Nat → List Int → AMem → Prop) (Q : Int → AMem → Prop) (x4 x6 x7 : Int) (σ : AMem) : Prop :=
  (if x4 = 41 then
  (if x6 = 255 then
    (if x7 = 21 then
      Q 1 σ
      else
      (if x7 = 37 then
        Q 1 σ
        else
        Q 0 σ))
    else
    Q 0 σ)
  else
  Q 0 σ)
def B_LinkHouse_isShort : (Nat → List Int → AMem → Prop) → (Int → AMem → Prop) → Nat → List Int → AMem → Prop := fun X Q j v σ => am_sel [(am_v3 (fun x0 x1 x2 σ => B_LinkHouse_isShort_0 X Q x0 x1 x2 σ)), (am_v5 (fun x0 x1 x2 x4 x5 σ => B_LinkHouse_isShort_1 X Q x0 x1 x2 x4 x5 σ)), (am_v3 (fun x4 x6 x7 σ => B_LinkHouse_isShort_2 X Q x4 x6 x7 σ))] j v σ
def T_LinkHouse_isShort : List Int → AMem → (Int → AMem → Prop) → Prop := am_T B_LinkHouse_isShort
abbrev y_LinkHouse_isShort : MethodName := ⟨"LinkHouse", "isShort", "(LLinkHouse$Part;IJ)Z"⟩
def a_LinkHouse_isShort : AC := (60, (y_LinkHouse_isShort, prog_1_method_26_code, 8, (Option.some Jvm.ClassFile.FieldType.boolean)), [2, 0, 1], 0, true, { frames := 2, cells := 0, slots := 0, locals := 67 }, T_LinkHouse_isShort)
set_option maxRecDepth 100000 in
theorem ms_LinkHouse_isShort : am_MSp a_LinkHouse_isShort := am_ms_s 3197 1 3196 rfl (by decide +kernel)
abbrev k_LinkHouse_isShort : List AC := [a_Part_number, a_LinkHouse_isLaid, a_LinkHouse_ahead]
set_option maxRecDepth 100000 in
theorem s_LinkHouse_isShort : (am_chkR { frames := 2, cells := 0, slots := 0, locals := 67 } k_LinkHouse_isShort && am_chkN c_LinkHouse_isShort { frames := 2, cells := 0, slots := 0, locals := 67 } && c_LinkHouse_isShort.all (am_chk "LinkHouse" prog_1_method_26_code 8 (Option.some Jvm.ClassFile.FieldType.boolean) k_LinkHouse_isShort) && c_LinkHouse_isShort.all (am_chkL m_LinkHouse_isShort) && decide (m_LinkHouse_isShort[0]? = some (0, am_argp 0 [2, 0, 1], [])) && decide (am_argn [2, 0, 1] ≤ 8)) = true := by decide +kernel
set_option maxHeartbeats 150000 in
set_option maxRecDepth 100000 in
theorem h_LinkHouse_isShort : ∀ X Q j v σ, B_LinkHouse_isShort X Q j v σ → am_at GR k_LinkHouse_isShort c_LinkHouse_isShort m_LinkHouse_isShort X Q 86 j v σ := fun X Q => am_sel_all (P := fun j v σ => am_at GR k_LinkHouse_isShort c_LinkHouse_isShort m_LinkHouse_isShort X Q 86 j v σ) (⟨(am_v3_of (fun x0 x1 x2 σ h => h)), ⟨(am_v5_of (fun x0 x1 x2 x4 x5 σ h => h)), ⟨(am_v3_of (fun x4 x6 x7 σ h => h)), trivial⟩⟩⟩)
set_option maxRecDepth 100000 in
theorem S_LinkHouse_isShort (l : Launch) (w : AW) : am_S l w GR a_LinkHouse_isShort := am_sound (rt := 0) (cal := k_LinkHouse_isShort) 60 y_LinkHouse_isShort prog_1_method_26_code 8 (Option.some Jvm.ClassFile.FieldType.boolean) [2, 0, 1] true { frames := 2, cells := 0, slots := 0, locals := 67 } B_LinkHouse_isShort "LinkHouse" c_LinkHouse_isShort m_LinkHouse_isShort 86 ms_LinkHouse_isShort (by decide +kernel) rfl rfl (am_cal (S_Part_number l w) (am_cal (S_LinkHouse_isLaid l w) (am_cal (S_LinkHouse_ahead l w) (fun _ h => absurd h List.not_mem_nil)))) s_LinkHouse_isShort h_LinkHouse_isShort
set_option maxRecDepth 100000 in
theorem of_LinkHouse_isShort {Q : Int → AMem → Prop} {x0 x1 x2 : Int} {σ : AMem} (h : ∀ X : Nat → List Int → AMem → Prop, (∀ (x0 x1 x2 : Int) (σ : AMem), B_LinkHouse_isShort_0 X Q x0 x1 x2 σ → X 0 [x0, x1, x2] σ) → (∀ (x0 x1 x2 x4 x5 : Int) (σ : AMem), B_LinkHouse_isShort_1 X Q x0 x1 x2 x4 x5 σ → X 1 [x0, x1, x2, x4, x5] σ) → (∀ (x4 x6 x7 : Int) (σ : AMem), B_LinkHouse_isShort_2 X Q x4 x6 x7 σ → X 2 [x4, x6, x7] σ) → X 0 [x0, x1, x2] σ) : T_LinkHouse_isShort [x0, x1, x2] σ Q := fun X hX => h X (fun x0 x1 x2 σ h => hX 0 [x0, x1, x2] σ h) (fun x0 x1 x2 x4 x5 σ h => hX 1 [x0, x1, x2, x4, x5] σ h) (fun x4 x6 x7 σ h => hX 2 [x4, x6, x7] σ h)
def c_LinkHouse_slotOf : List aE := [(0, 1, .aload_n 0, 1, 0, 0, []), (1, 0, .iload_n 1, 1, 0, 0, []), (2, 0, .invokestatic 423, 3, 57, 0, [3204]), (5, 0, .ifCond .eq 29, 3, 0, 0, []), (8, 0, .iload_n 2, 1, 0, 0, []), (9, 0, .ifCond .eq 15, 3, 0, 0, []), (12, 0, .aload_n 0, 1, 0, 0, []), (13, 0, .getfield 269, 3, 7, 25, [2, 0, 1118]), (16, 0, .iload_n 1, 1, 0, 0, []), (17, 0, .aaload, 1, 6, 0, []), (18, 0, .getfield 427, 3, 3, 6, [0, 0, 130]), (21, 0, .goto 12, 3, 0, 0, []), (24, 0, .aload_n 0, 1, 0, 0, []), (25, 0, .getfield 269, 3, 7, 25, [2, 0, 1118]), (28, 0, .iload_n 1, 1, 0, 0, []), (29, 0, .aaload, 1, 6, 0, []), (30, 0, .getfield 430, 3, 3, 5, [0, 0, 128]), (33, 0, .ireturn, 1, 0, 0, []), (34, 0, .iload_n 2, 1, 0, 0, []), (35, 0, .ifCond .eq 12, 3, 0, 0, []), (38, 0, .aload_n 0, 1, 0, 0, []), (39, 0, .getfield 253, 3, 7, 22, [2, 0, 1113]), (42, 0, .iload_n 1, 1, 0, 0, []), (43, 0, .iaload, 1, 0, 0, []), (44, 0, .goto 9, 3, 0, 0, []), (47, 0, .aload_n 0, 1, 0, 0, []), (48, 0, .getfield 250, 3, 7, 21, [2, 0, 1111]), (51, 0, .iload_n 1, 1, 0, 0, []), (52, 0, .iaload, 1, 0, 0, []), (53, 0, .ireturn, 1, 0, 0, [])]
def m_LinkHouse_slotOf : List aT := [(0, [(0, 2), (1, 0), (2, 0)], [])]
def B_LinkHouse_slotOf_0 (X : Nat → List Int → AMem → Prop) (Q : Int → AMem → Prop) (x0 x1 x2 : Int) (σ : AMem) : Prop :=
  T_LinkHouse_isNamed [x0, x1] σ (fun r1 σ2 => (if r1 = 0 then
  (if x2 = 0 then
    (if ly_k x0 = 27 then (if ly_k (am_rd GR σ2 x0 21) = 1 then 0 ≤ x1 ∧ x1 < ly_l (am_rd GR σ2 x0 21) ∧ Q (σ2 (am_rd GR σ2 x0 21) x1) σ2 else False) else False)
    else
    (if ly_k x0 = 27 then (if ly_k (am_rd GR σ2 x0 22) = 1 then 0 ≤ x1 ∧ x1 < ly_l (am_rd GR σ2 x0 22) ∧ Q (σ2 (am_rd GR σ2 x0 22) x1) σ2 else False) else False))
  else
  (if x2 = 0 then
    (if ly_k x0 = 27 then (if ly_k (am_rd GR σ2 x0 25) = 6 then 0 ≤ x1 ∧ x1 < ly_l (am_rd GR σ2 x0 25) ∧ (if ly_k (σ2 (am_rd GR σ2 x0 25) x1) = 23 then Q (am_rd GR σ2 (σ2 (am_rd GR σ2 x0 25) x1) 5) σ2 else False) else False) else False)
    else
    (if ly_k x0 = 27 then (if ly_k (am_rd GR σ2 x0 25) = 6 then 0 ≤ x1 ∧ x1 < ly_l (am_rd GR σ2 x0 25) ∧ (if ly_k (σ2 (am_rd GR σ2 x0 25) x1) = 23 then Q (am_rd GR σ2 (σ2 (am_rd GR σ2 x0 25) x1) 6) σ2 else False) else False) else False))))
def B_LinkHouse_slotOf : (Nat → List Int → AMem → Prop) → (Int → AMem → Prop) → Nat → List Int → AMem → Prop := fun X Q j v σ => am_sel [(am_v3 (fun x0 x1 x2 σ => B_LinkHouse_slotOf_0 X Q x0 x1 x2 σ))] j v σ
def T_LinkHouse_slotOf : List Int → AMem → (Int → AMem → Prop) → Prop := am_T B_LinkHouse_slotOf
abbrev y_LinkHouse_slotOf : MethodName := ⟨"LinkHouse", "slotOf", "(LLinkHouse$Part;IZ)I"⟩
def a_LinkHouse_slotOf : AC := (61, (y_LinkHouse_slotOf, prog_1_method_23_code, 3, (Option.some Jvm.ClassFile.FieldType.int)), [2, 0, 0], 0, true, { frames := 1, cells := 0, slots := 0, locals := 29 }, T_LinkHouse_slotOf)
set_option maxRecDepth 100000 in
theorem ms_LinkHouse_slotOf : am_MSp a_LinkHouse_slotOf := am_ms_s 3216 1 3215 rfl (by decide +kernel)
abbrev k_LinkHouse_slotOf : List AC := [a_LinkHouse_isNamed]
set_option maxRecDepth 100000 in
theorem s_LinkHouse_slotOf : (am_chkR { frames := 1, cells := 0, slots := 0, locals := 29 } k_LinkHouse_slotOf && am_chkN c_LinkHouse_slotOf { frames := 1, cells := 0, slots := 0, locals := 29 } && c_LinkHouse_slotOf.all (am_chk "LinkHouse" prog_1_method_23_code 3 (Option.some Jvm.ClassFile.FieldType.int) k_LinkHouse_slotOf) && c_LinkHouse_slotOf.all (am_chkL m_LinkHouse_slotOf) && decide (m_LinkHouse_slotOf[0]? = some (0, am_argp 0 [2, 0, 0], [])) && decide (am_argn [2, 0, 0] ≤ 3)) = true := by decide +kernel
set_option maxHeartbeats 150000 in
set_option maxRecDepth 100000 in
theorem h_LinkHouse_slotOf : ∀ X Q j v σ, B_LinkHouse_slotOf X Q j v σ → am_at GR k_LinkHouse_slotOf c_LinkHouse_slotOf m_LinkHouse_slotOf X Q 35 j v σ := fun X Q => am_sel_all (P := fun j v σ => am_at GR k_LinkHouse_slotOf c_LinkHouse_slotOf m_LinkHouse_slotOf X Q 35 j v σ) (⟨(am_v3_of (fun x0 x1 x2 σ h => h)), trivial⟩)
set_option maxRecDepth 100000 in
theorem S_LinkHouse_slotOf (l : Launch) (w : AW) : am_S l w GR a_LinkHouse_slotOf := am_sound (rt := 0) (cal := k_LinkHouse_slotOf) 61 y_LinkHouse_slotOf prog_1_method_23_code 3 (Option.some Jvm.ClassFile.FieldType.int) [2, 0, 0] true { frames := 1, cells := 0, slots := 0, locals := 29 } B_LinkHouse_slotOf "LinkHouse" c_LinkHouse_slotOf m_LinkHouse_slotOf 35 ms_LinkHouse_slotOf (by decide +kernel) rfl rfl (am_cal (S_LinkHouse_isNamed l w) (fun _ h => absurd h List.not_mem_nil)) s_LinkHouse_slotOf h_LinkHouse_slotOf
set_option maxRecDepth 100000 in
theorem of_LinkHouse_slotOf {Q : Int → AMem → Prop} {x0 x1 x2 : Int} {σ : AMem} (h : ∀ X : Nat → List Int → AMem → Prop, (∀ (x0 x1 x2 : Int) (σ : AMem), B_LinkHouse_slotOf_0 X Q x0 x1 x2 σ → X 0 [x0, x1, x2] σ) → X 0 [x0, x1, x2] σ) : T_LinkHouse_slotOf [x0, x1, x2] σ Q := fun X hX => h X (fun x0 x1 x2 σ h => hX 0 [x0, x1, x2] σ h)
set_option maxRecDepth 100000 in
theorem iff_LinkHouse_slotOf {Q : Int → AMem → Prop} {X : Nat → List Int → AMem → Prop} {x0 x1 x2 : Int} {σ : AMem} : T_LinkHouse_slotOf [x0, x1, x2] σ Q ↔ B_LinkHouse_slotOf_0 X Q x0 x1 x2 σ := ⟨fun h => h (fun j v σ => B_LinkHouse_slotOf X Q j v σ) (fun _ _ _ q => q), fun h _ hX => hX 0 _ _ h⟩
def c_LinkHouse_seatOne : List aE := [(0, 1, .aload_n 1, 1, 0, 0, []), (1, 0, .iload_n 3, 1, 0, 0, []), (2, 0, .iload 4, 2, 0, 0, []), (4, 0, .invokestatic 419, 3, 61, 0, [3214]), (7, 0, .ifCond .lt 4, 3, 0, 0, []), (10, 0, .return_, 1, 0, 0, []), (11, 0, .aload_n 1, 1, 0, 0, []), (12, 0, .iload_n 3, 1, 0, 0, []), (13, 0, .invokestatic 423, 3, 57, 0, [3204]), (16, 0, .ifCond .eq 24, 3, 0, 0, []), (19, 0, .iload 4, 2, 0, 0, []), (21, 0, .ifCond .eq 19, 3, 0, 0, []), (24, 0, .aload_n 1, 1, 0, 0, []), (25, 0, .getfield 269, 3, 7, 25, [2, 0, 1118]), (28, 0, .iload_n 3, 1, 0, 0, []), (29, 0, .aaload, 1, 6, 0, []), (30, 0, .aload_n 0, 1, 0, 0, []), (31, 0, .getfield 315, 3, 0, 41, [0, 0, 2014]), (34, 0, .putfield 427, 3, 3, 6, [0, 0, 130]), (37, 0, .goto 55, 3, 0, 0, []), (40, 2, .aload_n 1, 1, 0, 0, []), (41, 0, .iload_n 3, 1, 0, 0, []), (42, 0, .invokestatic 423, 3, 57, 0, [3204]), (45, 0, .ifCond .eq 19, 3, 0, 0, []), (48, 0, .aload_n 1, 1, 0, 0, []), (49, 0, .getfield 269, 3, 7, 25, [2, 0, 1118]), (52, 0, .iload_n 3, 1, 0, 0, []), (53, 0, .aaload, 1, 6, 0, []), (54, 0, .aload_n 0, 1, 0, 0, []), (55, 0, .getfield 315, 3, 0, 41, [0, 0, 2014]), (58, 0, .putfield 430, 3, 3, 5, [0, 0, 128]), (61, 0, .goto 31, 3, 0, 0, []), (64, 0, .iload 4, 2, 0, 0, []), (66, 0, .ifCond .eq 16, 3, 0, 0, []), (69, 0, .aload_n 1, 1, 0, 0, []), (70, 0, .getfield 253, 3, 7, 22, [2, 0, 1113]), (73, 0, .iload_n 3, 1, 0, 0, []), (74, 0, .aload_n 0, 1, 0, 0, []), (75, 0, .getfield 315, 3, 0, 41, [0, 0, 2014]), (78, 0, .iastore, 1, 0, 0, []), (79, 0, .goto 13, 3, 0, 0, []), (82, 0, .aload_n 1, 1, 0, 0, []), (83, 0, .getfield 250, 3, 7, 21, [2, 0, 1111]), (86, 0, .iload_n 3, 1, 0, 0, []), (87, 0, .aload_n 0, 1, 0, 0, []), (88, 0, .getfield 315, 3, 0, 41, [0, 0, 2014]), (91, 0, .iastore, 1, 0, 0, []), (92, 3, .aload_n 0, 1, 0, 0, []), (93, 0, .getfield 96, 3, 0, 30, [2, 0, 2003]), (96, 0, .aload_n 0, 1, 0, 0, []), (97, 0, .getfield 315, 3, 0, 41, [0, 0, 2014]), (100, 0, .iload_n 2, 1, 0, 0, []), (101, 0, .iastore, 1, 0, 0, []), (102, 0, .aload_n 0, 1, 0, 0, []), (103, 0, .getfield 102, 3, 0, 32, [2, 0, 2005]), (106, 0, .aload_n 0, 1, 0, 0, []), (107, 0, .getfield 315, 3, 0, 41, [0, 0, 2014]), (110, 0, .iload 4, 2, 0, 0, []), (112, 0, .bastore, 1, 3, 0, []), (113, 0, .aload_n 0, 1, 0, 0, []), (114, 0, .getfield 99, 3, 0, 31, [2, 0, 2004]), (117, 0, .aload_n 0, 1, 0, 0, []), (118, 0, .dup, 1, 0, 0, []), (119, 0, .getfield 315, 3, 0, 41, [0, 0, 2014]), (122, 0, .dup_x1, 1, 0, 0, []), (123, 0, .iconst 1, 1, 0, 0, []), (124, 0, .iadd, 1, 0, 0, []), (125, 0, .putfield 315, 3, 0, 41, [0, 0, 2014]), (128, 0, .iload_n 3, 1, 0, 0, []), (129, 0, .iastore, 1, 0, 0, []), (130, 0, .return_, 1, 0, 0, [])]
def m_LinkHouse_seatOne : List aT := [(0, [(0, 2), (1, 2), (2, 0), (3, 0), (4, 0)], []), (40, [(0, 2), (1, 2), (2, 0), (3, 0), (4, 0)], []), (92, [(0, 2), (2, 0), (3, 0), (4, 0)], [])]
def B_LinkHouse_seatOne_0 (X : Nat → List Int → AMem → Prop) (Q : Int → AMem → Prop) (x1 x2 x3 x4 : Int) (σ : AMem) : Prop :=
  T_LinkHouse_slotOf [x1, x3, x4] σ (fun r1 σ2 => (if r1 < 0 then
  T_LinkHouse_isNamed [x1, x3] σ2 (fun r3 σ4 => (if r3 = 0 then
    X 1 [1, x1, x2, x3, x4] σ4
    else
    (if x4 = 0 then
      X 1 [1, x1, x2, x3, x4] σ4
      else
      (if ly_k x1 = 27 then (if ly_k (am_rd GR σ4 x1 25) = 6 then 0 ≤ x3 ∧ x3 < ly_l (am_rd GR σ4 x1 25) ∧ (if ly_k (σ4 (am_rd GR σ4 x1 25) x3) = 23 then (if ly_fin (σ4 (am_rd GR σ4 x1 25) x3) 6 = 0 then am_let (am_upd σ4 (σ4 (am_rd GR σ4 x1 25) x3) 6 (σ4 1 41)) (fun σ5 => X 2 [1, x2, x3, x4] σ5) else False) else False) else False) else False))))
  else
  Q 0 σ2))
def B_LinkHouse_seatOne_1 (X : Nat → List Int → AMem → Prop) (Q : Int → AMem → Prop) (x1 x2 x3 x4 : Int) (σ : AMem) : Prop :=
  T_LinkHouse_isNamed [x1, x3] σ (fun r1 σ2 => (if r1 = 0 then
  (if x4 = 0 then
    (if ly_k x1 = 27 then (if ly_k (am_rd GR σ2 x1 21) = 1 then 0 ≤ x3 ∧ x3 < ly_l (am_rd GR σ2 x1 21) ∧ am_let (am_upd σ2 (am_rd GR σ2 x1 21) x3 (σ2 1 41)) (fun σ3 => X 2 [1, x2, x3, x4] σ3) else False) else False)
    else
    (if ly_k x1 = 27 then (if ly_k (am_rd GR σ2 x1 22) = 1 then 0 ≤ x3 ∧ x3 < ly_l (am_rd GR σ2 x1 22) ∧ am_let (am_upd σ2 (am_rd GR σ2 x1 22) x3 (σ2 1 41)) (fun σ4 => X 2 [1, x2, x3, x4] σ4) else False) else False))
  else
  (if ly_k x1 = 27 then (if ly_k (am_rd GR σ2 x1 25) = 6 then 0 ≤ x3 ∧ x3 < ly_l (am_rd GR σ2 x1 25) ∧ (if ly_k (σ2 (am_rd GR σ2 x1 25) x3) = 23 then (if ly_fin (σ2 (am_rd GR σ2 x1 25) x3) 5 = 0 then am_let (am_upd σ2 (σ2 (am_rd GR σ2 x1 25) x3) 5 (σ2 1 41)) (fun σ5 => X 2 [1, x2, x3, x4] σ5) else False) else False) else False) else False)))
def B_LinkHouse_seatOne_2 (X : Nat → List Int → AMem → Prop) (Q : Int → AMem → Prop) (x2 x3 x4 : Int) (σ : AMem) : Prop :=
  0 ≤ (σ 1 41) ∧ (σ 1 41) < 8192 ∧ am_let (am_upd σ 8300 (σ 1 41) x2) (fun σ1 => (if x4 = 0 ∨ x4 = 1 then 0 ≤ (σ1 1 41) ∧ (σ1 1 41) < 8192 ∧ am_let (am_upd σ1 8302 (σ1 1 41) x4) (fun σ2 => am_r32 ((σ2 1 41) + 1) ∧ am_let (am_upd σ2 1 41 ((σ2 1 41) + 1)) (fun σ3 => 0 ≤ (σ2 1 41) ∧ (σ2 1 41) < 8192 ∧ am_let (am_upd σ3 8301 (σ2 1 41) x3) (fun σ4 => Q 0 σ4))) else False))
def B_LinkHouse_seatOne : (Nat → List Int → AMem → Prop) → (Int → AMem → Prop) → Nat → List Int → AMem → Prop := fun X Q j v σ => am_sel [(am_v5 (fun t x1 x2 x3 x4 σ => if t = 1 then B_LinkHouse_seatOne_0 X Q x1 x2 x3 x4 σ else False)), (am_v5 (fun t x1 x2 x3 x4 σ => if t = 1 then B_LinkHouse_seatOne_1 X Q x1 x2 x3 x4 σ else False)), (am_v4 (fun t x2 x3 x4 σ => if t = 1 then B_LinkHouse_seatOne_2 X Q x2 x3 x4 σ else False))] j v σ
def T_LinkHouse_seatOne : List Int → AMem → (Int → AMem → Prop) → Prop := am_T B_LinkHouse_seatOne
abbrev y_LinkHouse_seatOne : MethodName := ⟨"LinkHouse", "seatOne", "(LLinkHouse$Part;IIZ)V"⟩
def a_LinkHouse_seatOne : AC := (62, (y_LinkHouse_seatOne, prog_1_method_22_code, 5, (Option.none : Option Jvm.ClassFile.FieldType)), [2, 2, 0, 0, 0], 3, false, { frames := 2, cells := 0, slots := 0, locals := 59 }, T_LinkHouse_seatOne)
set_option maxRecDepth 100000 in
theorem ms_LinkHouse_seatOne : am_MSp a_LinkHouse_seatOne := am_ms_v 3213 1 3212 101007 0 rfl (by decide +kernel)
abbrev k_LinkHouse_seatOne : List AC := [a_LinkHouse_slotOf, a_LinkHouse_isNamed]
set_option maxRecDepth 100000 in
theorem s_LinkHouse_seatOne : (am_chkR { frames := 2, cells := 0, slots := 0, locals := 59 } k_LinkHouse_seatOne && am_chkN c_LinkHouse_seatOne { frames := 2, cells := 0, slots := 0, locals := 59 } && c_LinkHouse_seatOne.all (am_chk "LinkHouse" prog_1_method_22_code 5 (Option.none : Option Jvm.ClassFile.FieldType) k_LinkHouse_seatOne) && c_LinkHouse_seatOne.all (am_chkL m_LinkHouse_seatOne) && decide (m_LinkHouse_seatOne[0]? = some (0, am_argp 0 [2, 2, 0, 0, 0], [])) && decide (am_argn [2, 2, 0, 0, 0] ≤ 5)) = true := by decide +kernel
set_option maxHeartbeats 150000 in
set_option maxRecDepth 100000 in
theorem h_LinkHouse_seatOne : ∀ X Q j v σ, B_LinkHouse_seatOne X Q j v σ → am_at GR k_LinkHouse_seatOne c_LinkHouse_seatOne m_LinkHouse_seatOne X Q 76 j v σ := fun X Q => am_sel_all (P := fun j v σ => am_at GR k_LinkHouse_seatOne c_LinkHouse_seatOne m_LinkHouse_seatOne X Q 76 j v σ) (⟨(am_v5_of (fun t x1 x2 x3 x4 σ h => am_tk (fun e => by subst e; exact fun h => h) h)), ⟨(am_v5_of (fun t x1 x2 x3 x4 σ h => am_tk (fun e => by subst e; exact fun h => h) h)), ⟨(am_v4_of (fun t x2 x3 x4 σ h => am_tk (fun e => by subst e; exact fun h => h) h)), trivial⟩⟩⟩)
set_option maxRecDepth 100000 in
theorem S_LinkHouse_seatOne (l : Launch) (w : AW) : am_S l w GR a_LinkHouse_seatOne := am_sound (rt := 3) (cal := k_LinkHouse_seatOne) 62 y_LinkHouse_seatOne prog_1_method_22_code 5 (Option.none : Option Jvm.ClassFile.FieldType) [2, 2, 0, 0, 0] false { frames := 2, cells := 0, slots := 0, locals := 59 } B_LinkHouse_seatOne "LinkHouse" c_LinkHouse_seatOne m_LinkHouse_seatOne 76 ms_LinkHouse_seatOne (by decide +kernel) rfl rfl (am_cal (S_LinkHouse_slotOf l w) (am_cal (S_LinkHouse_isNamed l w) (fun _ h => absurd h List.not_mem_nil))) s_LinkHouse_seatOne h_LinkHouse_seatOne
set_option maxRecDepth 100000 in
theorem of_LinkHouse_seatOne {Q : Int → AMem → Prop} {x1 x2 x3 x4 : Int} {σ : AMem} (h : ∀ X : Nat → List Int → AMem → Prop, (∀ (x1 x2 x3 x4 : Int) (σ : AMem), B_LinkHouse_seatOne_0 X Q x1 x2 x3 x4 σ → X 0 [1, x1, x2, x3, x4] σ) → (∀ (x1 x2 x3 x4 : Int) (σ : AMem), B_LinkHouse_seatOne_1 X Q x1 x2 x3 x4 σ → X 1 [1, x1, x2, x3, x4] σ) → (∀ (x2 x3 x4 : Int) (σ : AMem), B_LinkHouse_seatOne_2 X Q x2 x3 x4 σ → X 2 [1, x2, x3, x4] σ) → X 0 [1, x1, x2, x3, x4] σ) : T_LinkHouse_seatOne [1, x1, x2, x3, x4] σ Q := fun X hX => h X (fun x1 x2 x3 x4 σ h => hX 0 [1, x1, x2, x3, x4] σ h) (fun x1 x2 x3 x4 σ h => hX 1 [1, x1, x2, x3, x4] σ h) (fun x2 x3 x4 σ h => hX 2 [1, x2, x3, x4] σ h)
