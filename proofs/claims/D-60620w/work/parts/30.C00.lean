/-! methods: printed by gen/all.py -/
def c_Names_clear : List aE := [(0, 1, .aload_n 0, 1, 0, 0, []), (1, 0, .iconst 0, 1, 0, 0, []), (2, 0, .putfield 24, 3, 2, 3, [0, 0, 197]), (5, 0, .aload_n 0, 1, 0, 0, []), (6, 0, .iconst 0, 1, 0, 0, []), (7, 0, .putfield 28, 3, 2, 4, [0, 0, 199]), (10, 0, .iconst 0, 1, 0, 0, []), (11, 0, .istore_n 1, 1, 0, 0, []), (12, 2, .iload_n 1, 1, 0, 0, []), (13, 0, .sipush 1024, 3, 0, 0, []), (16, 0, .if_icmp .ge 16, 3, 0, 0, []), (19, 0, .aload_n 0, 1, 0, 0, []), (20, 0, .getfield 17, 3, 2, 1, [2, 0, 194]), (23, 0, .iload_n 1, 1, 0, 0, []), (24, 0, .aconst_null, 1, 0, 0, []), (25, 0, .aastore, 1, 6, 3, []), (26, 0, .iinc 1 1, 3, 0, 0, []), (29, 0, .goto (-17), 3, 0, 0, []), (32, 0, .return_, 1, 0, 0, [])]
def m_Names_clear : List aT := [(0, [(0, 2)], []), (12, [(0, 2), (1, 0)], [])]
def B_Names_clear_0 (X : Nat → List Int → AMem → Prop) (Q : Int → AMem → Prop) (σ : AMem) : Prop :=
  am_let (am_upd σ 16 3 0) (fun σ1 => am_let (am_upd σ1 16 4 0) (fun σ2 => X 1 [16, 0] σ2))
def B_Names_clear_1 (X : Nat → List Int → AMem → Prop) (Q : Int → AMem → Prop) (x1 : Int) (σ : AMem) : Prop :=
  (if x1 < 1024 then
  0 ≤ x1 ∧ x1 < 1024 ∧ am_let (am_upd σ 18 x1 0) (fun σ1 => am_r32 (x1 + 1) ∧ X 1 [16, (x1 + 1)] σ1)
  else
  Q 0 σ)
def B_Names_clear : (Nat → List Int → AMem → Prop) → (Int → AMem → Prop) → Nat → List Int → AMem → Prop := fun X Q j v σ => am_sel [(am_v1 (fun t σ => if t = 16 then B_Names_clear_0 X Q σ else False)), (am_v2 (fun t x1 σ => if t = 16 then B_Names_clear_1 X Q x1 σ else False))] j v σ
def T_Names_clear : List Int → AMem → (Int → AMem → Prop) → Prop := am_T B_Names_clear
abbrev y_Names_clear : MethodName := ⟨"LinkHouse$Names", "clear", "()V"⟩
def a_Names_clear : AC := (1, (y_Names_clear, prog_5_method_2_code, 2, (Option.none : Option Jvm.ClassFile.FieldType)), [2], 3, false, { frames := 0, cells := 0, slots := 0, locals := 0 }, T_Names_clear)
set_option maxRecDepth 100000 in
theorem ms_Names_clear : am_MSp a_Names_clear := am_ms_v 2184 3 2182 2183 2 rfl (by decide +kernel)
abbrev k_Names_clear : List AC := []
set_option maxRecDepth 100000 in
theorem s_Names_clear : (am_chkR { frames := 0, cells := 0, slots := 0, locals := 0 } k_Names_clear && am_chkN c_Names_clear { frames := 0, cells := 0, slots := 0, locals := 0 } && c_Names_clear.all (am_chk "LinkHouse$Names" prog_5_method_2_code 2 (Option.none : Option Jvm.ClassFile.FieldType) k_Names_clear) && c_Names_clear.all (am_chkL m_Names_clear) && decide (m_Names_clear[0]? = some (0, am_argp 0 [2], [])) && decide (am_argn [2] ≤ 2)) = true := by decide +kernel
set_option maxHeartbeats 150000 in
set_option maxRecDepth 100000 in
theorem h_Names_clear : ∀ X Q j v σ, B_Names_clear X Q j v σ → am_at GR k_Names_clear c_Names_clear m_Names_clear X Q 24 j v σ := fun X Q => am_sel_all (P := fun j v σ => am_at GR k_Names_clear c_Names_clear m_Names_clear X Q 24 j v σ) (⟨(am_v1_of (fun t σ h => am_tk (fun e => by subst e; exact fun h => h) h)), ⟨(am_v2_of (fun t x1 σ h => am_tk (fun e => by subst e; exact fun h => h) h)), trivial⟩⟩)
set_option maxRecDepth 100000 in
theorem S_Names_clear (l : Launch) (w : AW) : am_S l w GR a_Names_clear := am_sound (rt := 3) (cal := k_Names_clear) 1 y_Names_clear prog_5_method_2_code 2 (Option.none : Option Jvm.ClassFile.FieldType) [2] false { frames := 0, cells := 0, slots := 0, locals := 0 } B_Names_clear "LinkHouse$Names" c_Names_clear m_Names_clear 24 ms_Names_clear (by decide +kernel) rfl rfl (fun _ h => absurd h List.not_mem_nil) s_Names_clear h_Names_clear
set_option maxRecDepth 100000 in
theorem of_Names_clear {Q : Int → AMem → Prop} {σ : AMem} (h : ∀ X : Nat → List Int → AMem → Prop, (∀ (σ : AMem), B_Names_clear_0 X Q σ → X 0 [16] σ) → (∀ (x1 : Int) (σ : AMem), B_Names_clear_1 X Q x1 σ → X 1 [16, x1] σ) → X 0 [16] σ) : T_Names_clear [16] σ Q := fun X hX => h X (fun σ h => hX 0 [16] σ h) (fun x1 σ h => hX 1 [16, x1] σ h)
def c_Pool_add : List aE := [(0, 1, .aload_n 0, 1, 0, 0, []), (1, 0, .getfield 12, 3, 5, 0, [2, 0, 1019]), (4, 0, .aload_n 0, 1, 0, 0, []), (5, 0, .getfield 29, 3, 5, 5, [0, 0, 1025]), (8, 0, .iconst (-1), 1, 0, 0, []), (9, 0, .iastore, 1, 0, 0, []), (10, 0, .aload_n 0, 1, 0, 0, []), (11, 0, .getfield 16, 3, 5, 1, [2, 0, 1020]), (14, 0, .aload_n 0, 1, 0, 0, []), (15, 0, .getfield 29, 3, 5, 5, [0, 0, 1025]), (18, 0, .iconst (-1), 1, 0, 0, []), (19, 0, .iastore, 1, 0, 0, []), (20, 0, .aload_n 0, 1, 0, 0, []), (21, 0, .getfield 19, 3, 5, 2, [2, 0, 1021]), (24, 0, .aload_n 0, 1, 0, 0, []), (25, 0, .getfield 29, 3, 5, 5, [0, 0, 1025]), (28, 0, .iconst 0, 1, 0, 0, []), (29, 0, .iastore, 1, 0, 0, []), (30, 0, .aload_n 0, 1, 0, 0, []), (31, 0, .getfield 22, 3, 5, 3, [2, 0, 1022]), (34, 0, .aload_n 0, 1, 0, 0, []), (35, 0, .getfield 29, 3, 5, 5, [0, 0, 1025]), (38, 0, .iload_n 1, 1, 0, 0, []), (39, 0, .i2b, 1, 0, 0, []), (40, 0, .bastore, 1, 2, 0, []), (41, 0, .aload_n 0, 1, 0, 0, []), (42, 0, .dup, 1, 0, 0, []), (43, 0, .getfield 29, 3, 5, 5, [0, 0, 1025]), (46, 0, .dup_x1, 1, 0, 0, []), (47, 0, .iconst 1, 1, 0, 0, []), (48, 0, .iadd, 1, 0, 0, []), (49, 0, .putfield 29, 3, 5, 5, [0, 0, 1025]), (52, 0, .ireturn, 1, 0, 0, [])]
def m_Pool_add : List aT := [(0, [(0, 2), (1, 0)], [])]
def B_Pool_add_0 (X : Nat → List Int → AMem → Prop) (Q : Int → AMem → Prop) (x1 : Int) (σ : AMem) : Prop :=
  0 ≤ (σ 8340 5) ∧ (σ 8340 5) < 65544 ∧ am_let (am_upd σ 8341 (σ 8340 5) (-1)) (fun σ1 => 0 ≤ (σ1 8340 5) ∧ (σ1 8340 5) < 65544 ∧ am_let (am_upd σ1 8342 (σ1 8340 5) (-1)) (fun σ2 => 0 ≤ (σ2 8340 5) ∧ (σ2 8340 5) < 65544 ∧ am_let (am_upd σ2 8343 (σ2 8340 5) 0) (fun σ3 => 0 ≤ (σ3 8340 5) ∧ (σ3 8340 5) < 65544 ∧ am_let (am_upd σ3 8344 (σ3 8340 5) (w8 (w8 x1))) (fun σ4 => am_r32 ((σ4 8340 5) + 1) ∧ am_let (am_upd σ4 8340 5 ((σ4 8340 5) + 1)) (fun σ5 => Q (σ4 8340 5) σ5)))))
def B_Pool_add : (Nat → List Int → AMem → Prop) → (Int → AMem → Prop) → Nat → List Int → AMem → Prop := fun X Q j v σ => am_sel [(am_v2 (fun t x1 σ => if t = 8340 then B_Pool_add_0 X Q x1 σ else False))] j v σ
def T_Pool_add : List Int → AMem → (Int → AMem → Prop) → Prop := am_T B_Pool_add
abbrev y_Pool_add : MethodName := ⟨"LinkHouse$Pool", "add", "(I)I"⟩
def a_Pool_add : AC := (2, (y_Pool_add, prog_7_method_3_code, 2, (Option.some Jvm.ClassFile.FieldType.int)), [2, 0], 0, false, { frames := 0, cells := 0, slots := 0, locals := 0 }, T_Pool_add)
set_option maxRecDepth 100000 in
theorem ms_Pool_add : am_MSp a_Pool_add := am_ms_v 2192 6 2191 100002 5 rfl (by decide +kernel)
abbrev k_Pool_add : List AC := []
set_option maxRecDepth 100000 in
theorem s_Pool_add : (am_chkR { frames := 0, cells := 0, slots := 0, locals := 0 } k_Pool_add && am_chkN c_Pool_add { frames := 0, cells := 0, slots := 0, locals := 0 } && c_Pool_add.all (am_chk "LinkHouse$Pool" prog_7_method_3_code 2 (Option.some Jvm.ClassFile.FieldType.int) k_Pool_add) && c_Pool_add.all (am_chkL m_Pool_add) && decide (m_Pool_add[0]? = some (0, am_argp 0 [2, 0], [])) && decide (am_argn [2, 0] ≤ 2)) = true := by decide +kernel
set_option maxHeartbeats 150000 in
set_option maxRecDepth 100000 in
theorem h_Pool_add : ∀ X Q j v σ, B_Pool_add X Q j v σ → am_at GR k_Pool_add c_Pool_add m_Pool_add X Q 38 j v σ := fun X Q => am_sel_all (P := fun j v σ => am_at GR k_Pool_add c_Pool_add m_Pool_add X Q 38 j v σ) (⟨(am_v2_of (fun t x1 σ h => am_tk (fun e => by subst e; exact fun h => h) h)), trivial⟩)
set_option maxRecDepth 100000 in
theorem S_Pool_add (l : Launch) (w : AW) : am_S l w GR a_Pool_add := am_sound (rt := 0) (cal := k_Pool_add) 2 y_Pool_add prog_7_method_3_code 2 (Option.some Jvm.ClassFile.FieldType.int) [2, 0] false { frames := 0, cells := 0, slots := 0, locals := 0 } B_Pool_add "LinkHouse$Pool" c_Pool_add m_Pool_add 38 ms_Pool_add (by decide +kernel) rfl rfl (fun _ h => absurd h List.not_mem_nil) s_Pool_add h_Pool_add
set_option maxRecDepth 100000 in
theorem of_Pool_add {Q : Int → AMem → Prop} {x1 : Int} {σ : AMem} (h : ∀ X : Nat → List Int → AMem → Prop, (∀ (x1 : Int) (σ : AMem), B_Pool_add_0 X Q x1 σ → X 0 [8340, x1] σ) → X 0 [8340, x1] σ) : T_Pool_add [8340, x1] σ Q := fun X hX => h X (fun x1 σ h => hX 0 [8340, x1] σ h)
set_option maxRecDepth 100000 in
theorem iff_Pool_add {Q : Int → AMem → Prop} {X : Nat → List Int → AMem → Prop} {x1 : Int} {σ : AMem} : T_Pool_add [8340, x1] σ Q ↔ B_Pool_add_0 X Q x1 σ := ⟨fun h => h (fun j v σ => B_Pool_add X Q j v σ) (fun _ _ _ q => q), fun h _ hX => hX 0 _ _ h⟩
def c_Pool_clear : List aE := [(0, 1, .aload_n 0, 1, 0, 0, []), (1, 0, .iconst 0, 1, 0, 0, []), (2, 0, .putfield 29, 3, 5, 5, [0, 0, 1025]), (5, 0, .aload_n 0, 1, 0, 0, []), (6, 0, .iconst 0, 1, 0, 0, []), (7, 0, .putfield 33, 3, 5, 6, [0, 0, 1026]), (10, 0, .aload_n 0, 1, 0, 0, []), (11, 0, .iconst 0, 1, 0, 0, []), (12, 0, .invokevirtual 36, 3, 2, 5, [2189]), (15, 0, .pop, 1, 0, 0, []), (16, 0, .return_, 1, 0, 0, [])]
def m_Pool_clear : List aT := [(0, [(0, 2)], [])]
def B_Pool_clear_0 (X : Nat → List Int → AMem → Prop) (Q : Int → AMem → Prop) (σ : AMem) : Prop :=
  am_let (am_upd σ 8340 5 0) (fun σ1 => am_let (am_upd σ1 8340 6 0) (fun σ2 => T_Pool_add [8340, 0] σ2 (fun r3 σ4 => Q 0 σ4)))
def B_Pool_clear : (Nat → List Int → AMem → Prop) → (Int → AMem → Prop) → Nat → List Int → AMem → Prop := fun X Q j v σ => am_sel [(am_v1 (fun t σ => if t = 8340 then B_Pool_clear_0 X Q σ else False))] j v σ
def T_Pool_clear : List Int → AMem → (Int → AMem → Prop) → Prop := am_T B_Pool_clear
abbrev y_Pool_clear : MethodName := ⟨"LinkHouse$Pool", "clear", "()V"⟩
def a_Pool_clear : AC := (3, (y_Pool_clear, prog_7_method_2_code, 1, (Option.none : Option Jvm.ClassFile.FieldType)), [2], 3, false, { frames := 1, cells := 0, slots := 0, locals := 29 }, T_Pool_clear)
set_option maxRecDepth 100000 in
theorem ms_Pool_clear : am_MSp a_Pool_clear := am_ms_v 2188 6 2186 2187 5 rfl (by decide +kernel)
abbrev k_Pool_clear : List AC := [a_Pool_add]
set_option maxRecDepth 100000 in
theorem s_Pool_clear : (am_chkR { frames := 1, cells := 0, slots := 0, locals := 29 } k_Pool_clear && am_chkN c_Pool_clear { frames := 1, cells := 0, slots := 0, locals := 29 } && c_Pool_clear.all (am_chk "LinkHouse$Pool" prog_7_method_2_code 1 (Option.none : Option Jvm.ClassFile.FieldType) k_Pool_clear) && c_Pool_clear.all (am_chkL m_Pool_clear) && decide (m_Pool_clear[0]? = some (0, am_argp 0 [2], [])) && decide (am_argn [2] ≤ 1)) = true := by decide +kernel
set_option maxHeartbeats 150000 in
set_option maxRecDepth 100000 in
theorem h_Pool_clear : ∀ X Q j v σ, B_Pool_clear X Q j v σ → am_at GR k_Pool_clear c_Pool_clear m_Pool_clear X Q 20 j v σ := fun X Q => am_sel_all (P := fun j v σ => am_at GR k_Pool_clear c_Pool_clear m_Pool_clear X Q 20 j v σ) (⟨(am_v1_of (fun t σ h => am_tk (fun e => by subst e; exact fun h => h) h)), trivial⟩)
set_option maxRecDepth 100000 in
theorem S_Pool_clear (l : Launch) (w : AW) : am_S l w GR a_Pool_clear := am_sound (rt := 3) (cal := k_Pool_clear) 3 y_Pool_clear prog_7_method_2_code 1 (Option.none : Option Jvm.ClassFile.FieldType) [2] false { frames := 1, cells := 0, slots := 0, locals := 29 } B_Pool_clear "LinkHouse$Pool" c_Pool_clear m_Pool_clear 20 ms_Pool_clear (by decide +kernel) rfl rfl (am_cal (S_Pool_add l w) (fun _ h => absurd h List.not_mem_nil)) s_Pool_clear h_Pool_clear
set_option maxRecDepth 100000 in
theorem of_Pool_clear {Q : Int → AMem → Prop} {σ : AMem} (h : ∀ X : Nat → List Int → AMem → Prop, (∀ (σ : AMem), B_Pool_clear_0 X Q σ → X 0 [8340] σ) → X 0 [8340] σ) : T_Pool_clear [8340] σ Q := fun X hX => h X (fun σ h => hX 0 [8340] σ h)
set_option maxRecDepth 100000 in
theorem iff_Pool_clear {Q : Int → AMem → Prop} {X : Nat → List Int → AMem → Prop} {σ : AMem} : T_Pool_clear [8340] σ Q ↔ B_Pool_clear_0 X Q σ := ⟨fun h => h (fun j v σ => B_Pool_clear X Q j v σ) (fun _ _ _ q => q), fun h _ hX => hX 0 _ _ h⟩
def c_Names_mix : List aE := [(0, 1, .iload_n 0, 1, 0, 0, []), (1, 0, .bipush 31, 2, 0, 0, []), (3, 0, .imul, 1, 0, 0, []), (4, 0, .iload_n 1, 1, 0, 0, []), (5, 0, .iadd, 1, 0, 0, []), (6, 0, .sipush 1023, 3, 0, 0, []), (9, 0, .iand, 1, 0, 0, []), (10, 0, .ireturn, 1, 0, 0, [])]
def m_Names_mix : List aT := [(0, [(0, 0), (1, 0)], [])]
def B_Names_mix_0 (X : Nat → List Int → AMem → Prop) (Q : Int → AMem → Prop) (x0 x1 : Int) (σ : AMem) : Prop :=
  am_r32 (x0 * 31) ∧ am_r32 ((x0 * 31) + x1) ∧ Q (i_and ((x0 * 31) + x1) 1023) σ
def B_Names_mix : (Nat → List Int → AMem → Prop) → (Int → AMem → Prop) → Nat → List Int → AMem → Prop := fun X Q j v σ => am_sel [(am_v2 (fun x0 x1 σ => B_Names_mix_0 X Q x0 x1 σ))] j v σ
def T_Names_mix : List Int → AMem → (Int → AMem → Prop) → Prop := am_T B_Names_mix
abbrev y_Names_mix : MethodName := ⟨"LinkHouse$Names", "mix", "(II)I"⟩
def a_Names_mix : AC := (4, (y_Names_mix, prog_5_method_3_code, 2, (Option.some Jvm.ClassFile.FieldType.int)), [0, 0], 0, true, { frames := 0, cells := 0, slots := 0, locals := 0 }, T_Names_mix)
set_option maxRecDepth 100000 in
theorem ms_Names_mix : am_MSp a_Names_mix := am_ms_s 2203 3 2202 rfl (by decide +kernel)
abbrev k_Names_mix : List AC := []
set_option maxRecDepth 100000 in
theorem s_Names_mix : (am_chkR { frames := 0, cells := 0, slots := 0, locals := 0 } k_Names_mix && am_chkN c_Names_mix { frames := 0, cells := 0, slots := 0, locals := 0 } && c_Names_mix.all (am_chk "LinkHouse$Names" prog_5_method_3_code 2 (Option.some Jvm.ClassFile.FieldType.int) k_Names_mix) && c_Names_mix.all (am_chkL m_Names_mix) && decide (m_Names_mix[0]? = some (0, am_argp 0 [0, 0], [])) && decide (am_argn [0, 0] ≤ 2)) = true := by decide +kernel
set_option maxHeartbeats 150000 in
set_option maxRecDepth 100000 in
theorem h_Names_mix : ∀ X Q j v σ, B_Names_mix X Q j v σ → am_at GR k_Names_mix c_Names_mix m_Names_mix X Q 20 j v σ := fun X Q => am_sel_all (P := fun j v σ => am_at GR k_Names_mix c_Names_mix m_Names_mix X Q 20 j v σ) (⟨(am_v2_of (fun x0 x1 σ h => h)), trivial⟩)
set_option maxRecDepth 100000 in
theorem S_Names_mix (l : Launch) (w : AW) : am_S l w GR a_Names_mix := am_sound (rt := 0) (cal := k_Names_mix) 4 y_Names_mix prog_5_method_3_code 2 (Option.some Jvm.ClassFile.FieldType.int) [0, 0] true { frames := 0, cells := 0, slots := 0, locals := 0 } B_Names_mix "LinkHouse$Names" c_Names_mix m_Names_mix 20 ms_Names_mix (by decide +kernel) rfl rfl (fun _ h => absurd h List.not_mem_nil) s_Names_mix h_Names_mix
set_option maxRecDepth 100000 in
theorem of_Names_mix {Q : Int → AMem → Prop} {x0 x1 : Int} {σ : AMem} (h : ∀ X : Nat → List Int → AMem → Prop, (∀ (x0 x1 : Int) (σ : AMem), B_Names_mix_0 X Q x0 x1 σ → X 0 [x0, x1] σ) → X 0 [x0, x1] σ) : T_Names_mix [x0, x1] σ Q := fun X hX => h X (fun x0 x1 σ h => hX 0 [x0, x1] σ h)
set_option maxRecDepth 100000 in
theorem iff_Names_mix {Q : Int → AMem → Prop} {X : Nat → List Int → AMem → Prop} {x0 x1 : Int} {σ : AMem} : T_Names_mix [x0, x1] σ Q ↔ B_Names_mix_0 X Q x0 x1 σ := ⟨fun h => h (fun j v σ => B_Names_mix X Q j v σ) (fun _ _ _ q => q), fun h _ hX => hX 0 _ _ h⟩
def c_Name_isRow : List aE := [(0, 1, .iload_n 2, 1, 0, 0, []), (1, 0, .aload_n 0, 1, 0, 0, []), (2, 0, .getfield 15, 3, 3, 1, [0, 0, 115]), (5, 0, .if_icmp .ne 7, 3, 0, 0, []), (8, 0, .iconst 1, 1, 0, 0, []), (9, 0, .goto 4, 3, 0, 0, []), (12, 0, .iconst 0, 1, 0, 0, []), (13, 2, .istore_n 3, 1, 0, 0, []), (14, 0, .iconst 0, 1, 0, 0, []), (15, 0, .istore 4, 2, 0, 0, []), (17, 3, .iload 4, 2, 0, 0, []), (19, 0, .iload_n 2, 1, 0, 0, []), (20, 0, .if_icmp .ge 33, 3, 0, 0, []), (23, 0, .iload_n 3, 1, 0, 0, []), (24, 0, .ifCond .eq 29, 3, 0, 0, []), (27, 0, .aload_n 0, 1, 0, 0, []), (28, 0, .getfield 9, 3, 3, 0, [2, 0, 112]), (31, 0, .iload 4, 2, 0, 0, []), (33, 0, .baload, 1, 2, 0, []), (34, 0, .aload_n 1, 1, 0, 0, []), (35, 0, .iload 4, 2, 0, 0, []), (37, 0, .baload, 1, 2, 0, []), (38, 0, .if_icmp .ne 7, 3, 0, 0, []), (41, 0, .iconst 1, 1, 0, 0, []), (42, 0, .goto 4, 3, 0, 0, []), (45, 0, .iconst 0, 1, 0, 0, []), (46, 4, .istore_n 3, 1, 0, 0, []), (47, 0, .iinc 4 1, 3, 0, 0, []), (50, 0, .goto (-33), 3, 0, 0, []), (53, 0, .iload_n 3, 1, 0, 0, []), (54, 0, .ireturn, 1, 1, 0, [])]
def m_Name_isRow : List aT := [(0, [(0, 2), (1, 2), (2, 0)], []), (13, [(0, 2), (1, 2), (2, 0)], [0]), (17, [(0, 2), (1, 2), (2, 0), (3, 0), (4, 0)], []), (46, [(0, 2), (1, 2), (2, 0), (4, 0)], [0])]
def B_Name_isRow_0 (X : Nat → List Int → AMem → Prop) (Q : Int → AMem → Prop) (x0 x1 x2 : Int) (σ : AMem) : Prop :=
  (if ly_k x0 = 23 then (if x2 = (am_rd GR σ x0 1) then
  X 1 [x0, x1, x2, 1] σ
  else
  X 1 [x0, x1, x2, 0] σ) else False)
def B_Name_isRow_1 (X : Nat → List Int → AMem → Prop) (Q : Int → AMem → Prop) (x0 x1 x2 s0 : Int) (σ : AMem) : Prop :=
  X 2 [x0, x1, x2, s0, 0] σ
def B_Name_isRow_2 (X : Nat → List Int → AMem → Prop) (Q : Int → AMem → Prop) (x0 x1 x2 x3 x4 : Int) (σ : AMem) : Prop :=
  (if x4 < x2 then
  (if x3 = 0 then
    (if x3 = 0 ∨ x3 = 1 then Q x3 σ else False)
    else
    (if ly_k x0 = 23 then (if ly_k (am_rd GR σ x0 0) = 2 then 0 ≤ x4 ∧ x4 < ly_l (am_rd GR σ x0 0) ∧ (if ly_k x1 = 2 then 0 ≤ x4 ∧ x4 < ly_l x1 ∧ (if (σ (am_rd GR σ x0 0) x4) = (σ x1 x4) then
      X 3 [x0, x1, x2, x4, 1] σ
      else
      X 3 [x0, x1, x2, x4, 0] σ) else False) else False) else False))
  else
  (if x3 = 0 ∨ x3 = 1 then Q x3 σ else False))
def B_Name_isRow_3 (X : Nat → List Int → AMem → Prop) (Q : Int → AMem → Prop) (x0 x1 x2 x4 s0 : Int) (σ : AMem) : Prop :=
  am_r32 (x4 + 1) ∧ X 2 [x0, x1, x2, s0, (x4 + 1)] σ
def B_Name_isRow : (Nat → List Int → AMem → Prop) → (Int → AMem → Prop) → Nat → List Int → AMem → Prop := fun X Q j v σ => am_sel [(am_v3 (fun x0 x1 x2 σ => B_Name_isRow_0 X Q x0 x1 x2 σ)), (am_v4 (fun x0 x1 x2 s0 σ => B_Name_isRow_1 X Q x0 x1 x2 s0 σ)), (am_v5 (fun x0 x1 x2 x3 x4 σ => B_Name_isRow_2 X Q x0 x1 x2 x3 x4 σ)), (am_v5 (fun x0 x1 x2 x4 s0 σ => B_Name_isRow_3 X Q x0 x1 x2 x4 s0 σ))] j v σ
def T_Name_isRow : List Int → AMem → (Int → AMem → Prop) → Prop := am_T B_Name_isRow
abbrev y_Name_isRow : MethodName := ⟨"LinkHouse$Name", "isRow", "([BI)Z"⟩
def a_Name_isRow : AC := (5, (y_Name_isRow, prog_4_method_3_code, 5, (Option.some Jvm.ClassFile.FieldType.boolean)), [2, 2, 0], 0, false, { frames := 0, cells := 0, slots := 0, locals := 0 }, T_Name_isRow)
set_option maxRecDepth 100000 in
theorem ms_Name_isRow : am_MSp a_Name_isRow := am_ms_v 2207 4 2205 2206 3 rfl (by decide +kernel)
abbrev k_Name_isRow : List AC := []
set_option maxRecDepth 100000 in
theorem s_Name_isRow : (am_chkR { frames := 0, cells := 0, slots := 0, locals := 0 } k_Name_isRow && am_chkN c_Name_isRow { frames := 0, cells := 0, slots := 0, locals := 0 } && c_Name_isRow.all (am_chk "LinkHouse$Name" prog_4_method_3_code 5 (Option.some Jvm.ClassFile.FieldType.boolean) k_Name_isRow) && c_Name_isRow.all (am_chkL m_Name_isRow) && decide (m_Name_isRow[0]? = some (0, am_argp 0 [2, 2, 0], [])) && decide (am_argn [2, 2, 0] ≤ 5)) = true := by decide +kernel
set_option maxHeartbeats 150000 in
set_option maxRecDepth 100000 in
theorem h_Name_isRow : ∀ X Q j v σ, B_Name_isRow X Q j v σ → am_at GR k_Name_isRow c_Name_isRow m_Name_isRow X Q 36 j v σ := fun X Q => am_sel_all (P := fun j v σ => am_at GR k_Name_isRow c_Name_isRow m_Name_isRow X Q 36 j v σ) (⟨(am_v3_of (fun x0 x1 x2 σ h => h)), ⟨(am_v4_of (fun x0 x1 x2 s0 σ h => h)), ⟨(am_v5_of (fun x0 x1 x2 x3 x4 σ h => h)), ⟨(am_v5_of (fun x0 x1 x2 x4 s0 σ h => h)), trivial⟩⟩⟩⟩)
set_option maxRecDepth 100000 in
theorem S_Name_isRow (l : Launch) (w : AW) : am_S l w GR a_Name_isRow := am_sound (rt := 0) (cal := k_Name_isRow) 5 y_Name_isRow prog_4_method_3_code 5 (Option.some Jvm.ClassFile.FieldType.boolean) [2, 2, 0] false { frames := 0, cells := 0, slots := 0, locals := 0 } B_Name_isRow "LinkHouse$Name" c_Name_isRow m_Name_isRow 36 ms_Name_isRow (by decide +kernel) rfl rfl (fun _ h => absurd h List.not_mem_nil) s_Name_isRow h_Name_isRow
set_option maxRecDepth 100000 in
theorem of_Name_isRow {Q : Int → AMem → Prop} {x0 x1 x2 : Int} {σ : AMem} (h : ∀ X : Nat → List Int → AMem → Prop, (∀ (x0 x1 x2 : Int) (σ : AMem), B_Name_isRow_0 X Q x0 x1 x2 σ → X 0 [x0, x1, x2] σ) → (∀ (x0 x1 x2 s0 : Int) (σ : AMem), B_Name_isRow_1 X Q x0 x1 x2 s0 σ → X 1 [x0, x1, x2, s0] σ) → (∀ (x0 x1 x2 x3 x4 : Int) (σ : AMem), B_Name_isRow_2 X Q x0 x1 x2 x3 x4 σ → X 2 [x0, x1, x2, x3, x4] σ) → (∀ (x0 x1 x2 x4 s0 : Int) (σ : AMem), B_Name_isRow_3 X Q x0 x1 x2 x4 s0 σ → X 3 [x0, x1, x2, x4, s0] σ) → X 0 [x0, x1, x2] σ) : T_Name_isRow [x0, x1, x2] σ Q := fun X hX => h X (fun x0 x1 x2 σ h => hX 0 [x0, x1, x2] σ h) (fun x0 x1 x2 s0 σ h => hX 1 [x0, x1, x2, s0] σ h) (fun x0 x1 x2 x3 x4 σ h => hX 2 [x0, x1, x2, x3, x4] σ h) (fun x0 x1 x2 x4 s0 σ h => hX 3 [x0, x1, x2, x4, s0] σ h)
def c_Names_findRow : List aE := [(0, 1, .iload_n 2, 1, 0, 0, []), (1, 0, .istore_n 3, 1, 0, 0, []), (2, 0, .iconst 0, 1, 0, 0, []), (3, 0, .istore 4, 2, 0, 0, []), (5, 2, .iload 4, 2, 0, 0, []), (7, 0, .iload_n 2, 1, 0, 0, []), (8, 0, .if_icmp .ge 22, 3, 0, 0, []), (11, 0, .iload_n 3, 1, 0, 0, []), (12, 0, .aload_n 1, 1, 0, 0, []), (13, 0, .iload 4, 2, 0, 0, []), (15, 0, .baload, 1, 2, 0, []), (16, 0, .sipush 255, 3, 0, 0, []), (19, 0, .iand, 1, 0, 0, []), (20, 0, .invokestatic 37, 3, 4, 0, [2201]), (23, 0, .istore_n 3, 1, 0, 0, []), (24, 0, .iinc 4 1, 3, 0, 0, []), (27, 0, .goto (-22), 3, 0, 0, []), (30, 0, .aload_n 0, 1, 0, 0, []), (31, 0, .getfield 17, 3, 2, 1, [2, 0, 194]), (34, 0, .iload_n 3, 1, 0, 0, []), (35, 0, .aaload, 1, 6, 0, []), (36, 0, .astore 4, 2, 0, 0, []), (38, 3, .aload 4, 2, 0, 0, []), (40, 0, .ifnull 23, 3, 0, 0, []), (43, 0, .aload 4, 2, 0, 0, []), (45, 0, .aload_n 1, 1, 0, 0, []), (46, 0, .iload_n 2, 1, 0, 0, []), (47, 0, .invokevirtual 56, 3, 5, 3, [2204]), (50, 0, .ifCond .ne 13, 3, 0, 0, []), (53, 0, .aload 4, 2, 0, 0, []), (55, 0, .getfield 52, 3, 3, 18, [2, 0, 152]), (58, 0, .astore 4, 2, 0, 0, []), (60, 0, .goto (-22), 3, 0, 0, []), (63, 0, .aload 4, 2, 0, 0, []), (65, 0, .areturn, 1, 0, 0, [])]
def m_Names_findRow : List aT := [(0, [(0, 2), (1, 2), (2, 0)], []), (5, [(0, 2), (1, 2), (2, 0), (3, 0), (4, 0)], []), (38, [(1, 2), (2, 0), (4, 2)], [])]
def B_Names_findRow_0 (X : Nat → List Int → AMem → Prop) (Q : Int → AMem → Prop) (x1 x2 : Int) (σ : AMem) : Prop :=
  X 1 [16, x1, x2, x2, 0] σ
def B_Names_findRow_1 (X : Nat → List Int → AMem → Prop) (Q : Int → AMem → Prop) (x1 x2 x3 x4 : Int) (σ : AMem) : Prop :=
  (if x4 < x2 then
  (if ly_k x1 = 2 then 0 ≤ x4 ∧ x4 < ly_l x1 ∧ T_Names_mix [x3, (i_and (σ x1 x4) 255)] σ (fun r1 σ2 => am_r32 (x4 + 1) ∧ X 1 [16, x1, x2, r1, (x4 + 1)] σ2) else False)
  else
  0 ≤ x3 ∧ x3 < 1024 ∧ X 2 [x1, x2, (σ 18 x3)] σ)
def B_Names_findRow_2 (X : Nat → List Int → AMem → Prop) (Q : Int → AMem → Prop) (x1 x2 x4 : Int) (σ : AMem) : Prop :=
  (if x4 = 0 then
  Q x4 σ
  else
  (if ly_k x4 = 23 then T_Name_isRow [x4, x1, x2] σ (fun r1 σ2 => (if r1 = 0 then
    (if ly_k x4 = 23 then X 2 [x1, x2, (am_rd GR σ2 x4 18)] σ2 else False)
    else
    Q x4 σ2)) else False))
def B_Names_findRow : (Nat → List Int → AMem → Prop) → (Int → AMem → Prop) → Nat → List Int → AMem → Prop := fun X Q j v σ => am_sel [(am_v3 (fun t x1 x2 σ => if t = 16 then B_Names_findRow_0 X Q x1 x2 σ else False)), (am_v5 (fun t x1 x2 x3 x4 σ => if t = 16 then B_Names_findRow_1 X Q x1 x2 x3 x4 σ else False)), (am_v3 (fun x1 x2 x4 σ => B_Names_findRow_2 X Q x1 x2 x4 σ))] j v σ
def T_Names_findRow : List Int → AMem → (Int → AMem → Prop) → Prop := am_T B_Names_findRow
abbrev y_Names_findRow : MethodName := ⟨"LinkHouse$Names", "findRow", "([BI)LLinkHouse$Name;"⟩
def a_Names_findRow : AC := (6, (y_Names_findRow, prog_5_method_6_code, 5, (Option.some (Jvm.ClassFile.FieldType.object "LinkHouse$Name"))), [2, 2, 0], 2, false, { frames := 1, cells := 0, slots := 0, locals := 32 }, T_Names_findRow)
set_option maxRecDepth 100000 in
theorem ms_Names_findRow : am_MSp a_Names_findRow := am_ms_v 2200 3 2198 2199 2 rfl (by decide +kernel)
abbrev k_Names_findRow : List AC := [a_Names_mix, a_Name_isRow]
set_option maxRecDepth 100000 in
theorem s_Names_findRow : (am_chkR { frames := 1, cells := 0, slots := 0, locals := 32 } k_Names_findRow && am_chkN c_Names_findRow { frames := 1, cells := 0, slots := 0, locals := 32 } && c_Names_findRow.all (am_chk "LinkHouse$Names" prog_5_method_6_code 5 (Option.some (Jvm.ClassFile.FieldType.object "LinkHouse$Name")) k_Names_findRow) && c_Names_findRow.all (am_chkL m_Names_findRow) && decide (m_Names_findRow[0]? = some (0, am_argp 0 [2, 2, 0], [])) && decide (am_argn [2, 2, 0] ≤ 5)) = true := by decide +kernel
set_option maxHeartbeats 150000 in
set_option maxRecDepth 100000 in
theorem h_Names_findRow : ∀ X Q j v σ, B_Names_findRow X Q j v σ → am_at GR k_Names_findRow c_Names_findRow m_Names_findRow X Q 40 j v σ := fun X Q => am_sel_all (P := fun j v σ => am_at GR k_Names_findRow c_Names_findRow m_Names_findRow X Q 40 j v σ) (⟨(am_v3_of (fun t x1 x2 σ h => am_tk (fun e => by subst e; exact fun h => h) h)), ⟨(am_v5_of (fun t x1 x2 x3 x4 σ h => am_tk (fun e => by subst e; exact fun h => h) h)), ⟨(am_v3_of (fun x1 x2 x4 σ h => h)), trivial⟩⟩⟩)
set_option maxRecDepth 100000 in
theorem S_Names_findRow (l : Launch) (w : AW) : am_S l w GR a_Names_findRow := am_sound (rt := 2) (cal := k_Names_findRow) 6 y_Names_findRow prog_5_method_6_code 5 (Option.some (Jvm.ClassFile.FieldType.object "LinkHouse$Name")) [2, 2, 0] false { frames := 1, cells := 0, slots := 0, locals := 32 } B_Names_findRow "LinkHouse$Names" c_Names_findRow m_Names_findRow 40 ms_Names_findRow (by decide +kernel) rfl rfl (am_cal (S_Names_mix l w) (am_cal (S_Name_isRow l w) (fun _ h => absurd h List.not_mem_nil))) s_Names_findRow h_Names_findRow
set_option maxRecDepth 100000 in
theorem of_Names_findRow {Q : Int → AMem → Prop} {x1 x2 : Int} {σ : AMem} (h : ∀ X : Nat → List Int → AMem → Prop, (∀ (x1 x2 : Int) (σ : AMem), B_Names_findRow_0 X Q x1 x2 σ → X 0 [16, x1, x2] σ) → (∀ (x1 x2 x3 x4 : Int) (σ : AMem), B_Names_findRow_1 X Q x1 x2 x3 x4 σ → X 1 [16, x1, x2, x3, x4] σ) → (∀ (x1 x2 x4 : Int) (σ : AMem), B_Names_findRow_2 X Q x1 x2 x4 σ → X 2 [x1, x2, x4] σ) → X 0 [16, x1, x2] σ) : T_Names_findRow [16, x1, x2] σ Q := fun X hX => h X (fun x1 x2 σ h => hX 0 [16, x1, x2] σ h) (fun x1 x2 x3 x4 σ h => hX 1 [16, x1, x2, x3, x4] σ h) (fun x1 x2 x4 σ h => hX 2 [x1, x2, x4] σ h)
def c_Names_fresh : List aE := [(0, 1, .aload_n 0, 1, 0, 0, []), (1, 0, .getfield 13, 3, 2, 0, [2, 0, 192]), (4, 0, .aload_n 0, 1, 0, 0, []), (5, 0, .dup, 1, 0, 0, []), (6, 0, .getfield 24, 3, 2, 3, [0, 0, 197]), (9, 0, .dup_x1, 1, 0, 0, []), (10, 0, .iconst 1, 1, 0, 0, []), (11, 0, .iadd, 1, 0, 0, []), (12, 0, .putfield 24, 3, 2, 3, [0, 0, 197]), (15, 0, .aaload, 1, 6, 0, []), (16, 0, .astore_n 3, 1, 0, 0, []), (17, 0, .aload_n 3, 1, 0, 0, []), (18, 0, .iload_n 1, 1, 0, 0, []), (19, 0, .putfield 71, 3, 3, 1, [0, 0, 116]), (22, 0, .aload_n 3, 1, 0, 0, []), (23, 0, .iconst 0, 1, 0, 0, []), (24, 0, .putfield 74, 3, 3, 2, [0, 0, 119]), (27, 0, .aload_n 3, 1, 0, 0, []), (28, 0, .iconst 0, 1, 0, 0, []), (29, 0, .putfield 77, 3, 3, 4, [0, 0, 125]), (32, 0, .aload_n 3, 1, 0, 0, []), (33, 0, .iconst (-1), 1, 0, 0, []), (34, 0, .putfield 80, 3, 3, 5, [0, 0, 127]), (37, 0, .aload_n 3, 1, 0, 0, []), (38, 0, .iconst (-1), 1, 0, 0, []), (39, 0, .putfield 83, 3, 3, 6, [0, 0, 129]), (42, 0, .aload_n 3, 1, 0, 0, []), (43, 0, .iconst 0, 1, 0, 0, []), (44, 0, .putfield 86, 3, 3, 8, [0, 1, 132]), (47, 0, .aload_n 3, 1, 0, 0, []), (48, 0, .iconst 0, 1, 0, 0, []), (49, 0, .putfield 90, 3, 3, 9, [0, 1, 134]), (52, 0, .aload_n 3, 1, 0, 0, []), (53, 0, .iconst 1, 1, 0, 0, []), (54, 0, .putfield 93, 3, 3, 10, [0, 1, 137]), (57, 0, .aload_n 3, 1, 0, 0, []), (58, 0, .aload_n 0, 1, 0, 0, []), (59, 0, .getfield 17, 3, 2, 1, [2, 0, 194]), (62, 0, .iload_n 2, 1, 0, 0, []), (63, 0, .aaload, 1, 6, 0, []), (64, 0, .putfield 52, 3, 3, 18, [2, 0, 152]), (67, 0, .aload_n 0, 1, 0, 0, []), (68, 0, .getfield 17, 3, 2, 1, [2, 0, 194]), (71, 0, .iload_n 2, 1, 0, 0, []), (72, 0, .aload_n 3, 1, 0, 0, []), (73, 0, .aastore, 1, 6, 3, []), (74, 0, .aload_n 3, 1, 0, 0, []), (75, 0, .areturn, 1, 0, 0, [])]
def m_Names_fresh : List aT := [(0, [(0, 2), (1, 0), (2, 0)], [])]
def B_Names_fresh_0 (X : Nat → List Int → AMem → Prop) (Q : Int → AMem → Prop) (x1 x2 : Int) (σ : AMem) : Prop :=
  am_r32 ((σ 16 3) + 1) ∧ am_let (am_upd σ 16 3 ((σ 16 3) + 1)) (fun σ1 => 0 ≤ (σ 16 3) ∧ (σ 16 3) < 4128 ∧ (if ly_k (σ1 17 (σ 16 3)) = 23 then (if ly_fin (σ1 17 (σ 16 3)) 1 = 0 then am_let (am_upd σ1 (σ1 17 (σ 16 3)) 1 x1) (fun σ2 => (if ly_k (σ1 17 (σ 16 3)) = 23 then (if ly_fin (σ1 17 (σ 16 3)) 2 = 0 then am_let (am_upd σ2 (σ1 17 (σ 16 3)) 2 0) (fun σ3 => (if ly_k (σ1 17 (σ 16 3)) = 23 then (if ly_fin (σ1 17 (σ 16 3)) 4 = 0 then am_let (am_upd σ3 (σ1 17 (σ 16 3)) 4 0) (fun σ4 => (if ly_k (σ1 17 (σ 16 3)) = 23 then (if ly_fin (σ1 17 (σ 16 3)) 5 = 0 then am_let (am_upd σ4 (σ1 17 (σ 16 3)) 5 (-1)) (fun σ5 => (if ly_k (σ1 17 (σ 16 3)) = 23 then (if ly_fin (σ1 17 (σ 16 3)) 6 = 0 then am_let (am_upd σ5 (σ1 17 (σ 16 3)) 6 (-1)) (fun σ6 => (if ly_k (σ1 17 (σ 16 3)) = 23 then (if ly_fin (σ1 17 (σ 16 3)) 8 = 0 then am_let (am_upd σ6 (σ1 17 (σ 16 3)) 8 0) (fun σ7 => (if ly_k (σ1 17 (σ 16 3)) = 23 then (if ly_fin (σ1 17 (σ 16 3)) 9 = 0 then am_let (am_upd σ7 (σ1 17 (σ 16 3)) 9 0) (fun σ8 => (if ly_k (σ1 17 (σ 16 3)) = 23 then (if ly_fin (σ1 17 (σ 16 3)) 10 = 0 then am_let (am_upd σ8 (σ1 17 (σ 16 3)) 10 1) (fun σ9 => 0 ≤ x2 ∧ x2 < 1024 ∧ (if ly_k (σ1 17 (σ 16 3)) = 23 then (if ly_fin (σ1 17 (σ 16 3)) 18 = 0 then am_let (am_upd σ9 (σ1 17 (σ 16 3)) 18 (σ9 18 x2)) (fun σ10 => (if (σ1 17 (σ 16 3)) = 0 ∨ ly_k (σ1 17 (σ 16 3)) = 23 then 0 ≤ x2 ∧ x2 < 1024 ∧ am_let (am_upd σ10 18 x2 (σ1 17 (σ 16 3))) (fun σ11 => Q (σ1 17 (σ 16 3)) σ11) else False)) else False) else False)) else False) else False)) else False) else False)) else False) else False)) else False) else False)) else False) else False)) else False) else False)) else False) else False)) else False) else False))
def B_Names_fresh : (Nat → List Int → AMem → Prop) → (Int → AMem → Prop) → Nat → List Int → AMem → Prop := fun X Q j v σ => am_sel [(am_v3 (fun t x1 x2 σ => if t = 16 then B_Names_fresh_0 X Q x1 x2 σ else False))] j v σ
def T_Names_fresh : List Int → AMem → (Int → AMem → Prop) → Prop := am_T B_Names_fresh
abbrev y_Names_fresh : MethodName := ⟨"LinkHouse$Names", "fresh", "(II)LLinkHouse$Name;"⟩
def a_Names_fresh : AC := (7, (y_Names_fresh, prog_5_method_8_code, 4, (Option.some (Jvm.ClassFile.FieldType.object "LinkHouse$Name"))), [2, 0, 0], 2, false, { frames := 0, cells := 0, slots := 0, locals := 0 }, T_Names_fresh)
set_option maxRecDepth 100000 in
theorem ms_Names_fresh : am_MSp a_Names_fresh := am_ms_v 2211 3 2210 100003 2 rfl (by decide +kernel)
abbrev k_Names_fresh : List AC := []
set_option maxRecDepth 100000 in
theorem s_Names_fresh : (am_chkR { frames := 0, cells := 0, slots := 0, locals := 0 } k_Names_fresh && am_chkN c_Names_fresh { frames := 0, cells := 0, slots := 0, locals := 0 } && c_Names_fresh.all (am_chk "LinkHouse$Names" prog_5_method_8_code 4 (Option.some (Jvm.ClassFile.FieldType.object "LinkHouse$Name")) k_Names_fresh) && c_Names_fresh.all (am_chkL m_Names_fresh) && decide (m_Names_fresh[0]? = some (0, am_argp 0 [2, 0, 0], [])) && decide (am_argn [2, 0, 0] ≤ 4)) = true := by decide +kernel
set_option maxHeartbeats 150000 in
set_option maxRecDepth 100000 in
theorem h_Names_fresh : ∀ X Q j v σ, B_Names_fresh X Q j v σ → am_at GR k_Names_fresh c_Names_fresh m_Names_fresh X Q 53 j v σ := fun X Q => am_sel_all (P := fun j v σ => am_at GR k_Names_fresh c_Names_fresh m_Names_fresh X Q 53 j v σ) (⟨(am_v3_of (fun t x1 x2 σ h => am_tk (fun e => by subst e; exact fun h => h) h)), trivial⟩)
set_option maxRecDepth 100000 in
theorem S_Names_fresh (l : Launch) (w : AW) : am_S l w GR a_Names_fresh := am_sound (rt := 2) (cal := k_Names_fresh) 7 y_Names_fresh prog_5_method_8_code 4 (Option.some (Jvm.ClassFile.FieldType.object "LinkHouse$Name")) [2, 0, 0] false { frames := 0, cells := 0, slots := 0, locals := 0 } B_Names_fresh "LinkHouse$Names" c_Names_fresh m_Names_fresh 53 ms_Names_fresh (by decide +kernel) rfl rfl (fun _ h => absurd h List.not_mem_nil) s_Names_fresh h_Names_fresh
set_option maxRecDepth 100000 in
theorem of_Names_fresh {Q : Int → AMem → Prop} {x1 x2 : Int} {σ : AMem} (h : ∀ X : Nat → List Int → AMem → Prop, (∀ (x1 x2 : Int) (σ : AMem), B_Names_fresh_0 X Q x1 x2 σ → X 0 [16, x1, x2] σ) → X 0 [16, x1, x2] σ) : T_Names_fresh [16, x1, x2] σ Q := fun X hX => h X (fun x1 x2 σ h => hX 0 [16, x1, x2] σ h)
set_option maxRecDepth 100000 in
theorem iff_Names_fresh {Q : Int → AMem → Prop} {X : Nat → List Int → AMem → Prop} {x1 x2 : Int} {σ : AMem} : T_Names_fresh [16, x1, x2] σ Q ↔ B_Names_fresh_0 X Q x1 x2 σ := ⟨fun h => h (fun j v σ => B_Names_fresh X Q j v σ) (fun _ _ _ q => q), fun h _ hX => hX 0 _ _ h⟩
def c_Names_takeRow : List aE := [(0, 1, .aload_n 0, 1, 0, 0, []), (1, 0, .aload_n 1, 1, 0, 0, []), (2, 0, .iload_n 2, 1, 0, 0, []), (3, 0, .invokevirtual 96, 3, 6, 2, [2197]), (6, 0, .astore_n 3, 1, 0, 0, []), (7, 0, .aload_n 3, 1, 0, 0, []), (8, 0, .ifnull 5, 3, 0, 0, []), (11, 0, .aload_n 3, 1, 0, 0, []), (12, 0, .areturn, 1, 0, 0, []), (13, 0, .iload_n 2, 1, 0, 0, []), (14, 0, .istore 4, 2, 0, 0, []), (16, 0, .iconst 0, 1, 0, 0, []), (17, 0, .istore 5, 2, 0, 0, []), (19, 2, .iload 5, 2, 0, 0, []), (21, 0, .iload_n 2, 1, 0, 0, []), (22, 0, .if_icmp .ge 24, 3, 0, 0, []), (25, 0, .iload 4, 2, 0, 0, []), (27, 0, .aload_n 1, 1, 0, 0, []), (28, 0, .iload 5, 2, 0, 0, []), (30, 0, .baload, 1, 2, 0, []), (31, 0, .sipush 255, 3, 0, 0, []), (34, 0, .iand, 1, 0, 0, []), (35, 0, .invokestatic 37, 3, 4, 0, [2201]), (38, 0, .istore 4, 2, 0, 0, []), (40, 0, .iinc 5 1, 3, 0, 0, []), (43, 0, .goto (-24), 3, 0, 0, []), (46, 0, .aload_n 0, 1, 0, 0, []), (47, 0, .iload_n 2, 1, 0, 0, []), (48, 0, .iload 4, 2, 0, 0, []), (50, 0, .invokevirtual 64, 3, 7, 2, [2208]), (53, 0, .astore_n 3, 1, 0, 0, []), (54, 0, .aload_n 1, 1, 0, 0, []), (55, 0, .iconst 0, 1, 0, 0, []), (56, 0, .aload_n 3, 1, 0, 0, []), (57, 0, .getfield 68, 3, 3, 0, [2, 0, 113]), (60, 0, .iconst 0, 1, 0, 0, []), (61, 0, .iload_n 2, 1, 0, 0, []), (62, 0, .invokestatic 100, 3, 9999, 0, [2212]), (65, 0, .aload_n 3, 1, 0, 0, []), (66, 0, .areturn, 1, 0, 0, [])]
def m_Names_takeRow : List aT := [(0, [(0, 2), (1, 2), (2, 0)], []), (19, [(0, 2), (1, 2), (2, 0), (4, 0), (5, 0)], [])]
def B_Names_takeRow_0 (X : Nat → List Int → AMem → Prop) (Q : Int → AMem → Prop) (x1 x2 : Int) (σ : AMem) : Prop :=
  T_Names_findRow [16, x1, x2] σ (fun r1 σ2 => (if r1 = 0 then
  X 1 [16, x1, x2, x2, 0] σ2
  else
  Q r1 σ2))
def B_Names_takeRow_1 (X : Nat → List Int → AMem → Prop) (Q : Int → AMem → Prop) (x1 x2 x4 x5 : Int) (σ : AMem) : Prop :=
  (if x5 < x2 then
  (if ly_k x1 = 2 then 0 ≤ x5 ∧ x5 < ly_l x1 ∧ T_Names_mix [x4, (i_and (σ x1 x5) 255)] σ (fun r4 σ5 => am_r32 (x5 + 1) ∧ X 1 [16, x1, x2, r4, (x5 + 1)] σ5) else False)
  else
  T_Names_fresh [16, x2, x4] σ (fun r1 σ2 => (if ly_k r1 = 23 then (if ly_k x1 = 2 then (if ly_k (am_rd GR σ2 r1 0) = 2 then (0 : Int) ≤ 0 ∧ (0 : Int) ≤ 0 ∧ 0 ≤ x2 ∧ 0 + x2 ≤ ly_l x1 ∧ 0 + x2 ≤ ly_l (am_rd GR σ2 r1 0) ∧ am_let (am_cp σ2 x1 0 (am_rd GR σ2 r1 0) 0 x2) (fun σ3 => Q r1 σ3) else False) else False) else False)))
def B_Names_takeRow : (Nat → List Int → AMem → Prop) → (Int → AMem → Prop) → Nat → List Int → AMem → Prop := fun X Q j v σ => am_sel [(am_v3 (fun t x1 x2 σ => if t = 16 then B_Names_takeRow_0 X Q x1 x2 σ else False)), (am_v5 (fun t x1 x2 x4 x5 σ => if t = 16 then B_Names_takeRow_1 X Q x1 x2 x4 x5 σ else False))] j v σ
def T_Names_takeRow : List Int → AMem → (Int → AMem → Prop) → Prop := am_T B_Names_takeRow
abbrev y_Names_takeRow : MethodName := ⟨"LinkHouse$Names", "takeRow", "([BI)LLinkHouse$Name;"⟩
def a_Names_takeRow : AC := (8, (y_Names_takeRow, prog_5_method_9_code, 6, (Option.some (Jvm.ClassFile.FieldType.object "LinkHouse$Name"))), [2, 2, 0], 2, false, { frames := 2, cells := 0, slots := 0, locals := 64 }, T_Names_takeRow)
set_option maxRecDepth 100000 in
theorem ms_Names_takeRow : am_MSp a_Names_takeRow := am_ms_v 2196 3 2194 2195 2 rfl (by decide +kernel)
abbrev k_Names_takeRow : List AC := [a_Names_findRow, a_Names_mix, a_Names_fresh]
set_option maxRecDepth 100000 in
theorem s_Names_takeRow : (am_chkR { frames := 2, cells := 0, slots := 0, locals := 64 } k_Names_takeRow && am_chkN c_Names_takeRow { frames := 2, cells := 0, slots := 0, locals := 64 } && c_Names_takeRow.all (am_chk "LinkHouse$Names" prog_5_method_9_code 6 (Option.some (Jvm.ClassFile.FieldType.object "LinkHouse$Name")) k_Names_takeRow) && c_Names_takeRow.all (am_chkL m_Names_takeRow) && decide (m_Names_takeRow[0]? = some (0, am_argp 0 [2, 2, 0], [])) && decide (am_argn [2, 2, 0] ≤ 6)) = true := by decide +kernel
set_option maxHeartbeats 150000 in
set_option maxRecDepth 100000 in
theorem h_Names_takeRow : ∀ X Q j v σ, B_Names_takeRow X Q j v σ → am_at GR k_Names_takeRow c_Names_takeRow m_Names_takeRow X Q 45 j v σ := fun X Q => am_sel_all (P := fun j v σ => am_at GR k_Names_takeRow c_Names_takeRow m_Names_takeRow X Q 45 j v σ) (⟨(am_v3_of (fun t x1 x2 σ h => am_tk (fun e => by subst e; exact fun h => h) h)), ⟨(am_v5_of (fun t x1 x2 x4 x5 σ h => am_tk (fun e => by subst e; exact fun h => h) h)), trivial⟩⟩)
set_option maxRecDepth 100000 in
theorem S_Names_takeRow (l : Launch) (w : AW) : am_S l w GR a_Names_takeRow := am_sound (rt := 2) (cal := k_Names_takeRow) 8 y_Names_takeRow prog_5_method_9_code 6 (Option.some (Jvm.ClassFile.FieldType.object "LinkHouse$Name")) [2, 2, 0] false { frames := 2, cells := 0, slots := 0, locals := 64 } B_Names_takeRow "LinkHouse$Names" c_Names_takeRow m_Names_takeRow 45 ms_Names_takeRow (by decide +kernel) rfl rfl (am_cal (S_Names_findRow l w) (am_cal (S_Names_mix l w) (am_cal (S_Names_fresh l w) (fun _ h => absurd h List.not_mem_nil)))) s_Names_takeRow h_Names_takeRow
set_option maxRecDepth 100000 in
theorem of_Names_takeRow {Q : Int → AMem → Prop} {x1 x2 : Int} {σ : AMem} (h : ∀ X : Nat → List Int → AMem → Prop, (∀ (x1 x2 : Int) (σ : AMem), B_Names_takeRow_0 X Q x1 x2 σ → X 0 [16, x1, x2] σ) → (∀ (x1 x2 x4 x5 : Int) (σ : AMem), B_Names_takeRow_1 X Q x1 x2 x4 x5 σ → X 1 [16, x1, x2, x4, x5] σ) → X 0 [16, x1, x2] σ) : T_Names_takeRow [16, x1, x2] σ Q := fun X hX => h X (fun x1 x2 σ h => hX 0 [16, x1, x2] σ h) (fun x1 x2 x4 x5 σ h => hX 1 [16, x1, x2, x4, x5] σ h)
def c_Names_give : List aE := [(0, 1, .aload_n 0, 1, 0, 0, []), (1, 0, .getfield 20, 3, 2, 2, [2, 0, 195]), (4, 0, .aload_n 0, 1, 0, 0, []), (5, 0, .dup, 1, 0, 0, []), (6, 0, .getfield 28, 3, 2, 4, [0, 0, 199]), (9, 0, .dup_x1, 1, 0, 0, []), (10, 0, .iconst 1, 1, 0, 0, []), (11, 0, .iadd, 1, 0, 0, []), (12, 0, .putfield 28, 3, 2, 4, [0, 0, 199]), (15, 0, .aload_n 1, 1, 0, 0, []), (16, 0, .aastore, 1, 6, 3, []), (17, 0, .aload_n 1, 1, 0, 0, []), (18, 0, .iconst 3, 1, 0, 0, []), (19, 0, .putfield 74, 3, 3, 2, [0, 0, 119]), (22, 0, .aload_n 1, 1, 0, 0, []), (23, 0, .aconst_null, 1, 0, 0, []), (24, 0, .putfield 106, 3, 3, 11, [2, 0, 140]), (27, 0, .aload_n 1, 1, 0, 0, []), (28, 0, .lload_n 2, 1, 0, 0, []), (29, 0, .putfield 110, 3, 3, 14, [1, 0, 147]), (32, 0, .return_, 1, 0, 0, [])]
def m_Names_give : List aT := [(0, [(0, 2), (1, 2), (2, 1)], [])]
def B_Names_give_0 (X : Nat → List Int → AMem → Prop) (Q : Int → AMem → Prop) (x1 x2 : Int) (σ : AMem) : Prop :=
  am_r32 ((σ 16 4) + 1) ∧ am_let (am_upd σ 16 4 ((σ 16 4) + 1)) (fun σ1 => (if x1 = 0 ∨ ly_k x1 = 23 then 0 ≤ (σ 16 4) ∧ (σ 16 4) < 4128 ∧ am_let (am_upd σ1 19 (σ 16 4) x1) (fun σ2 => (if ly_k x1 = 23 then (if ly_fin x1 2 = 0 then am_let (am_upd σ2 x1 2 3) (fun σ3 => (if ly_k x1 = 23 then (if ly_fin x1 11 = 0 then am_let (am_upd σ3 x1 11 0) (fun σ4 => (if ly_k x1 = 23 then (if ly_fin x1 14 = 0 then am_let (am_upd σ4 x1 14 x2) (fun σ5 => Q 0 σ5) else False) else False)) else False) else False)) else False) else False)) else False))
def B_Names_give : (Nat → List Int → AMem → Prop) → (Int → AMem → Prop) → Nat → List Int → AMem → Prop := fun X Q j v σ => am_sel [(am_v3 (fun t x1 x2 σ => if t = 16 then B_Names_give_0 X Q x1 x2 σ else False))] j v σ
def T_Names_give : List Int → AMem → (Int → AMem → Prop) → Prop := am_T B_Names_give
abbrev y_Names_give : MethodName := ⟨"LinkHouse$Names", "give", "(LLinkHouse$Name;J)V"⟩
def a_Names_give : AC := (9, (y_Names_give, prog_5_method_10_code, 4, (Option.none : Option Jvm.ClassFile.FieldType)), [2, 2, 1], 3, false, { frames := 0, cells := 0, slots := 0, locals := 0 }, T_Names_give)
set_option maxRecDepth 100000 in
theorem ms_Names_give : am_MSp a_Names_give := am_ms_v 2218 3 2216 2217 2 rfl (by decide +kernel)
abbrev k_Names_give : List AC := []
set_option maxRecDepth 100000 in
theorem s_Names_give : (am_chkR { frames := 0, cells := 0, slots := 0, locals := 0 } k_Names_give && am_chkN c_Names_give { frames := 0, cells := 0, slots := 0, locals := 0 } && c_Names_give.all (am_chk "LinkHouse$Names" prog_5_method_10_code 4 (Option.none : Option Jvm.ClassFile.FieldType) k_Names_give) && c_Names_give.all (am_chkL m_Names_give) && decide (m_Names_give[0]? = some (0, am_argp 0 [2, 2, 1], [])) && decide (am_argn [2, 2, 1] ≤ 4)) = true := by decide +kernel
set_option maxHeartbeats 150000 in
set_option maxRecDepth 100000 in
theorem h_Names_give : ∀ X Q j v σ, B_Names_give X Q j v σ → am_at GR k_Names_give c_Names_give m_Names_give X Q 26 j v σ := fun X Q => am_sel_all (P := fun j v σ => am_at GR k_Names_give c_Names_give m_Names_give X Q 26 j v σ) (⟨(am_v3_of (fun t x1 x2 σ h => am_tk (fun e => by subst e; exact fun h => h) h)), trivial⟩)
set_option maxRecDepth 100000 in
theorem S_Names_give (l : Launch) (w : AW) : am_S l w GR a_Names_give := am_sound (rt := 3) (cal := k_Names_give) 9 y_Names_give prog_5_method_10_code 4 (Option.none : Option Jvm.ClassFile.FieldType) [2, 2, 1] false { frames := 0, cells := 0, slots := 0, locals := 0 } B_Names_give "LinkHouse$Names" c_Names_give m_Names_give 26 ms_Names_give (by decide +kernel) rfl rfl (fun _ h => absurd h List.not_mem_nil) s_Names_give h_Names_give
set_option maxRecDepth 100000 in
theorem of_Names_give {Q : Int → AMem → Prop} {x1 x2 : Int} {σ : AMem} (h : ∀ X : Nat → List Int → AMem → Prop, (∀ (x1 x2 : Int) (σ : AMem), B_Names_give_0 X Q x1 x2 σ → X 0 [16, x1, x2] σ) → X 0 [16, x1, x2] σ) : T_Names_give [16, x1, x2] σ Q := fun X hX => h X (fun x1 x2 σ h => hX 0 [16, x1, x2] σ h)
set_option maxRecDepth 100000 in
theorem iff_Names_give {Q : Int → AMem → Prop} {X : Nat → List Int → AMem → Prop} {x1 x2 : Int} {σ : AMem} : T_Names_give [16, x1, x2] σ Q ↔ B_Names_give_0 X Q x1 x2 σ := ⟨fun h => h (fun j v σ => B_Names_give X Q j v σ) (fun _ _ _ q => q), fun h _ hX => hX 0 _ _ h⟩
def c_Part_defines : List aE := [(0, 1, .iload_n 1, 1, 0, 0, []), (1, 0, .ifCond .le 25, 3, 0, 0, []), (4, 0, .aload_n 0, 1, 0, 0, []), (5, 0, .getfield 37, 3, 7, 16, [2, 0, 1099]), (8, 0, .iload_n 1, 1, 0, 0, []), (9, 0, .iaload, 1, 0, 0, []), (10, 0, .ifCond .eq 16, 3, 0, 0, []), (13, 0, .aload_n 0, 1, 0, 0, []), (14, 0, .getfield 40, 3, 7, 17, [2, 0, 1101]), (17, 0, .iload_n 1, 1, 0, 0, []), (18, 0, .iaload, 1, 0, 0, []), (19, 0, .ifCond .eq 7, 3, 0, 0, []), (22, 0, .iconst 1, 1, 0, 0, []), (23, 0, .goto 4, 3, 0, 0, []), (26, 0, .iconst 0, 1, 0, 0, []), (27, 0, .ireturn, 1, 1, 0, [])]
def m_Part_defines : List aT := [(0, [(0, 2), (1, 0)], [])]
def B_Part_defines_0 (X : Nat → List Int → AMem → Prop) (Q : Int → AMem → Prop) (x0 x1 : Int) (σ : AMem) : Prop :=
  (if 0 < x1 then
  (if ly_k x0 = 27 then (if ly_k (am_rd GR σ x0 16) = 1 then 0 ≤ x1 ∧ x1 < ly_l (am_rd GR σ x0 16) ∧ (if (σ (am_rd GR σ x0 16) x1) = 0 then
    Q 0 σ
    else
    (if ly_k x0 = 27 then (if ly_k (am_rd GR σ x0 17) = 1 then 0 ≤ x1 ∧ x1 < ly_l (am_rd GR σ x0 17) ∧ (if (σ (am_rd GR σ x0 17) x1) = 0 then
      Q 0 σ
      else
      Q 1 σ) else False) else False)) else False) else False)
  else
  Q 0 σ)
def B_Part_defines : (Nat → List Int → AMem → Prop) → (Int → AMem → Prop) → Nat → List Int → AMem → Prop := fun X Q j v σ => am_sel [(am_v2 (fun x0 x1 σ => B_Part_defines_0 X Q x0 x1 σ))] j v σ
def T_Part_defines : List Int → AMem → (Int → AMem → Prop) → Prop := am_T B_Part_defines
abbrev y_Part_defines : MethodName := ⟨"LinkHouse$Part", "defines", "(I)Z"⟩
def a_Part_defines : AC := (10, (y_Part_defines, prog_6_method_28_code, 2, (Option.some Jvm.ClassFile.FieldType.boolean)), [2, 0], 0, false, { frames := 0, cells := 0, slots := 0, locals := 0 }, T_Part_defines)
set_option maxRecDepth 100000 in
theorem ms_Part_defines : am_MSp a_Part_defines := am_ms_v 2230 8 2228 2229 7 rfl (by decide +kernel)
abbrev k_Part_defines : List AC := []
set_option maxRecDepth 100000 in
theorem s_Part_defines : (am_chkR { frames := 0, cells := 0, slots := 0, locals := 0 } k_Part_defines && am_chkN c_Part_defines { frames := 0, cells := 0, slots := 0, locals := 0 } && c_Part_defines.all (am_chk "LinkHouse$Part" prog_6_method_28_code 2 (Option.some Jvm.ClassFile.FieldType.boolean) k_Part_defines) && c_Part_defines.all (am_chkL m_Part_defines) && decide (m_Part_defines[0]? = some (0, am_argp 0 [2, 0], [])) && decide (am_argn [2, 0] ≤ 2)) = true := by decide +kernel
set_option maxHeartbeats 150000 in
set_option maxRecDepth 100000 in
theorem h_Part_defines : ∀ X Q j v σ, B_Part_defines X Q j v σ → am_at GR k_Part_defines c_Part_defines m_Part_defines X Q 21 j v σ := fun X Q => am_sel_all (P := fun j v σ => am_at GR k_Part_defines c_Part_defines m_Part_defines X Q 21 j v σ) (⟨(am_v2_of (fun x0 x1 σ h => h)), trivial⟩)
set_option maxRecDepth 100000 in
theorem S_Part_defines (l : Launch) (w : AW) : am_S l w GR a_Part_defines := am_sound (rt := 0) (cal := k_Part_defines) 10 y_Part_defines prog_6_method_28_code 2 (Option.some Jvm.ClassFile.FieldType.boolean) [2, 0] false { frames := 0, cells := 0, slots := 0, locals := 0 } B_Part_defines "LinkHouse$Part" c_Part_defines m_Part_defines 21 ms_Part_defines (by decide +kernel) rfl rfl (fun _ h => absurd h List.not_mem_nil) s_Part_defines h_Part_defines
set_option maxRecDepth 100000 in
theorem of_Part_defines {Q : Int → AMem → Prop} {x0 x1 : Int} {σ : AMem} (h : ∀ X : Nat → List Int → AMem → Prop, (∀ (x0 x1 : Int) (σ : AMem), B_Part_defines_0 X Q x0 x1 σ → X 0 [x0, x1] σ) → X 0 [x0, x1] σ) : T_Part_defines [x0, x1] σ Q := fun X hX => h X (fun x0 x1 σ h => hX 0 [x0, x1] σ h)
set_option maxRecDepth 100000 in
theorem iff_Part_defines {Q : Int → AMem → Prop} {X : Nat → List Int → AMem → Prop} {x0 x1 : Int} {σ : AMem} : T_Part_defines [x0, x1] σ Q ↔ B_Part_defines_0 X Q x0 x1 σ := ⟨fun h => h (fun j v σ => B_Part_defines X Q j v σ) (fun _ _ _ q => q), fun h _ hX => hX 0 _ _ h⟩
def c_Part_number : List aE := [(0, 1, .lconst 0, 1, 0, 0, []), (1, 0, .lstore 4, 2, 0, 0, []), (3, 0, .iload_n 3, 1, 0, 0, []), (4, 0, .iconst 1, 1, 0, 0, []), (5, 0, .isub, 1, 0, 0, []), (6, 0, .istore 6, 2, 0, 0, []), (8, 2, .iload 6, 2, 0, 0, []), (10, 0, .ifCond .lt 37, 3, 0, 0, []), (13, 0, .lload 4, 2, 0, 0, []), (15, 0, .bipush 8, 2, 0, 0, []), (17, 0, .lshl, 1, 0, 0, []), (18, 0, .aload_n 0, 1, 0, 0, []), (19, 0, .getfield 88, 3, 7, 0, [2, 0, 1063]), (22, 0, .aload_n 0, 1, 0, 0, []), (23, 0, .getfield 91, 3, 7, 1, [0, 0, 1066]), (26, 0, .lload_n 1, 1, 0, 0, []), (27, 0, .l2i, 1, 0, 0, []), (28, 0, .iadd, 1, 0, 0, []), (29, 0, .iload 6, 2, 0, 0, []), (31, 0, .iadd, 1, 0, 0, []), (32, 0, .baload, 1, 2, 0, []), (33, 0, .i2l, 1, 0, 0, []), (34, 0, .ldc2_w 95, 3, 255, 0, [3004]), (37, 0, .land, 1, 0, 0, []), (38, 0, .lor, 1, 0, 0, []), (39, 0, .lstore 4, 2, 0, 0, []), (41, 0, .iinc 6 (-1), 3, 0, 0, []), (44, 0, .goto (-36), 3, 0, 0, []), (47, 0, .lload 4, 2, 0, 0, []), (49, 0, .lreturn, 1, 0, 0, [])]
def m_Part_number : List aT := [(0, [(0, 2), (1, 1), (3, 0)], []), (8, [(0, 2), (1, 1), (4, 1), (6, 0)], [])]
def B_Part_number_0 (X : Nat → List Int → AMem → Prop) (Q : Int → AMem → Prop) (x0 x1 x3 : Int) (σ : AMem) : Prop :=
  am_r32 (x3 - 1) ∧ X 1 [x0, x1, 0, (x3 - 1)] σ
def B_Part_number_1 (X : Nat → List Int → AMem → Prop) (Q : Int → AMem → Prop) (x0 x1 x4 x6 : Int) (σ : AMem) : Prop :=
  (if x6 < 0 then
  Q x4 σ
  else
  (if ly_k x0 = 27 then (if ly_k x0 = 27 then am_r32 ((am_rd GR σ x0 1) + (w32 x1)) ∧ am_r32 (((am_rd GR σ x0 1) + (w32 x1)) + x6) ∧ (if ly_k (am_rd GR σ x0 0) = 2 then 0 ≤ (((am_rd GR σ x0 1) + (w32 x1)) + x6) ∧ (((am_rd GR σ x0 1) + (w32 x1)) + x6) < ly_l (am_rd GR σ x0 0) ∧ am_let (l_or (l_shl x4 8) (l_and (σ (am_rd GR σ x0 0) (((am_rd GR σ x0 1) + (w32 x1)) + x6)) 255)) (fun y1 => am_r32 (x6 + (-1)) ∧ X 1 [x0, x1, y1, (x6 + (-1))] σ) else False) else False) else False))
def B_Part_number : (Nat → List Int → AMem → Prop) → (Int → AMem → Prop) → Nat → List Int → AMem → Prop := fun X Q j v σ => am_sel [(am_v3 (fun x0 x1 x3 σ => B_Part_number_0 X Q x0 x1 x3 σ)), (am_v4 (fun x0 x1 x4 x6 σ => B_Part_number_1 X Q x0 x1 x4 x6 σ))] j v σ
def T_Part_number : List Int → AMem → (Int → AMem → Prop) → Prop := am_T B_Part_number
abbrev y_Part_number : MethodName := ⟨"LinkHouse$Part", "number", "(JI)J"⟩
def a_Part_number : AC := (11, (y_Part_number, prog_6_method_2_code, 7, (Option.some Jvm.ClassFile.FieldType.long)), [2, 1, 0], 1, false, { frames := 0, cells := 0, slots := 0, locals := 0 }, T_Part_number)
set_option maxRecDepth 100000 in
theorem ms_Part_number : am_MSp a_Part_number := am_ms_v 3003 8 3001 3002 7 rfl (by decide +kernel)
abbrev k_Part_number : List AC := []
set_option maxRecDepth 100000 in
theorem s_Part_number : (am_chkR { frames := 0, cells := 0, slots := 0, locals := 0 } k_Part_number && am_chkN c_Part_number { frames := 0, cells := 0, slots := 0, locals := 0 } && c_Part_number.all (am_chk "LinkHouse$Part" prog_6_method_2_code 7 (Option.some Jvm.ClassFile.FieldType.long) k_Part_number) && c_Part_number.all (am_chkL m_Part_number) && decide (m_Part_number[0]? = some (0, am_argp 0 [2, 1, 0], [])) && decide (am_argn [2, 1, 0] ≤ 7)) = true := by decide +kernel
set_option maxHeartbeats 150000 in
set_option maxRecDepth 100000 in
theorem h_Part_number : ∀ X Q j v σ, B_Part_number X Q j v σ → am_at GR k_Part_number c_Part_number m_Part_number X Q 35 j v σ := fun X Q => am_sel_all (P := fun j v σ => am_at GR k_Part_number c_Part_number m_Part_number X Q 35 j v σ) (⟨(am_v3_of (fun x0 x1 x3 σ h => h)), ⟨(am_v4_of (fun x0 x1 x4 x6 σ h => h)), trivial⟩⟩)
set_option maxRecDepth 100000 in
theorem S_Part_number (l : Launch) (w : AW) : am_S l w GR a_Part_number := am_sound (rt := 1) (cal := k_Part_number) 11 y_Part_number prog_6_method_2_code 7 (Option.some Jvm.ClassFile.FieldType.long) [2, 1, 0] false { frames := 0, cells := 0, slots := 0, locals := 0 } B_Part_number "LinkHouse$Part" c_Part_number m_Part_number 35 ms_Part_number (by decide +kernel) rfl rfl (fun _ h => absurd h List.not_mem_nil) s_Part_number h_Part_number
set_option maxRecDepth 100000 in
theorem of_Part_number {Q : Int → AMem → Prop} {x0 x1 x3 : Int} {σ : AMem} (h : ∀ X : Nat → List Int → AMem → Prop, (∀ (x0 x1 x3 : Int) (σ : AMem), B_Part_number_0 X Q x0 x1 x3 σ → X 0 [x0, x1, x3] σ) → (∀ (x0 x1 x4 x6 : Int) (σ : AMem), B_Part_number_1 X Q x0 x1 x4 x6 σ → X 1 [x0, x1, x4, x6] σ) → X 0 [x0, x1, x3] σ) : T_Part_number [x0, x1, x3] σ Q := fun X hX => h X (fun x0 x1 x3 σ h => hX 0 [x0, x1, x3] σ h) (fun x0 x1 x4 x6 σ h => hX 1 [x0, x1, x4, x6] σ h)
def c_Part_letters : List aE := [(0, 1, .aload_n 0, 1, 0, 0, []), (1, 0, .getfield 15, 3, 7, 9, [2, 0, 1084]), (4, 0, .aload_n 0, 1, 0, 0, []), (5, 0, .getfield 148, 3, 7, 5, [0, 0, 1076]), (8, 0, .iaload, 1, 0, 0, []), (9, 0, .istore_n 2, 1, 0, 0, []), (10, 0, .aload_n 0, 1, 0, 0, []), (11, 0, .getfield 43, 3, 7, 18, [2, 0, 1103]), (14, 0, .iload_n 1, 1, 0, 0, []), (15, 0, .iaload, 1, 0, 0, []), (16, 0, .i2l, 1, 0, 0, []), (17, 0, .ldc2_w 195, 3, 4294967295, 0, [2239]), (20, 0, .land, 1, 0, 0, []), (21, 0, .lstore_n 3, 1, 0, 0, []), (22, 0, .lload_n 3, 1, 0, 0, []), (23, 0, .lstore 5, 2, 0, 0, []), (25, 2, .lload 5, 2, 0, 0, []), (27, 0, .aload_n 0, 1, 0, 0, []), (28, 0, .getfield 28, 3, 7, 13, [2, 0, 1092]), (31, 0, .iload_n 2, 1, 0, 0, []), (32, 0, .laload, 1, 0, 0, []), (33, 0, .lcmp, 1, 0, 0, []), (34, 0, .ifCond .ge 44, 3, 0, 0, []), (37, 0, .aload_n 0, 1, 0, 0, []), (38, 0, .aload_n 0, 1, 0, 0, []), (39, 0, .getfield 21, 3, 7, 11, [2, 0, 1087]), (42, 0, .iload_n 2, 1, 0, 0, []), (43, 0, .iaload, 1, 0, 0, []), (44, 0, .i2l, 1, 0, 0, []), (45, 0, .lload 5, 2, 0, 0, []), (47, 0, .ladd, 1, 0, 0, []), (48, 0, .iconst 1, 1, 0, 0, []), (49, 0, .invokevirtual 112, 3, 11, 7, [3000]), (52, 0, .lconst 0, 1, 0, 0, []), (53, 0, .lcmp, 1, 0, 0, []), (54, 0, .ifCond .ne 15, 3, 0, 0, []), (57, 0, .lload 5, 2, 0, 0, []), (59, 0, .lload_n 3, 1, 0, 0, []), (60, 0, .lsub, 1, 0, 0, []), (61, 0, .ldc2_w 197, 3, 1000, 0, [3005]), (64, 0, .invokestatic 199, 3, 9992, 0, [3006]), (67, 0, .l2i, 1, 0, 0, []), (68, 0, .ireturn, 1, 0, 0, []), (69, 0, .lload 5, 2, 0, 0, []), (71, 0, .lconst 1, 1, 0, 0, []), (72, 0, .ladd, 1, 0, 0, []), (73, 0, .lstore 5, 2, 0, 0, []), (75, 0, .goto (-50), 3, 0, 0, []), (78, 0, .iconst (-1), 1, 0, 0, []), (79, 0, .ireturn, 1, 0, 0, [])]
def m_Part_letters : List aT := [(0, [(0, 2), (1, 0)], []), (25, [(0, 2), (2, 0), (3, 1), (5, 1)], [])]
def B_Part_letters_0 (X : Nat → List Int → AMem → Prop) (Q : Int → AMem → Prop) (x0 x1 : Int) (σ : AMem) : Prop :=
  (if ly_k x0 = 27 then (if ly_k x0 = 27 then (if ly_k (am_rd GR σ x0 9) = 1 then 0 ≤ (am_rd GR σ x0 5) ∧ (am_rd GR σ x0 5) < ly_l (am_rd GR σ x0 9) ∧ am_let (σ (am_rd GR σ x0 9) (am_rd GR σ x0 5)) (fun y1 => (if ly_k x0 = 27 then (if ly_k (am_rd GR σ x0 18) = 1 then 0 ≤ x1 ∧ x1 < ly_l (am_rd GR σ x0 18) ∧ am_let (l_and (σ (am_rd GR σ x0 18) x1) 4294967295) (fun y2 => X 1 [x0, y1, y2, y2] σ) else False) else False)) else False) else False) else False)
def B_Part_letters_1 (X : Nat → List Int → AMem → Prop) (Q : Int → AMem → Prop) (x0 x2 x3 x5 : Int) (σ : AMem) : Prop :=
  (if ly_k x0 = 27 then (if ly_k (am_rd GR σ x0 13) = 4 then 0 ≤ x2 ∧ x2 < ly_l (am_rd GR σ x0 13) ∧ (if x5 < (σ (am_rd GR σ x0 13) x2) then
  (if ly_k x0 = 27 then (if ly_k (am_rd GR σ x0 11) = 1 then 0 ≤ x2 ∧ x2 < ly_l (am_rd GR σ x0 11) ∧ (if ly_k x0 = 27 then T_Part_number [x0, (w64 ((σ (am_rd GR σ x0 11) x2) + x5)), 1] σ (fun r1 σ2 => (if r1 = 0 then
    Q (w32 (am_min (w64 (x5 - x3)) 1000)) σ2
    else
    X 1 [x0, x2, x3, (w64 (x5 + 1))] σ2)) else False) else False) else False)
  else
  Q (-1) σ) else False) else False)
def B_Part_letters : (Nat → List Int → AMem → Prop) → (Int → AMem → Prop) → Nat → List Int → AMem → Prop := fun X Q j v σ => am_sel [(am_v2 (fun x0 x1 σ => B_Part_letters_0 X Q x0 x1 σ)), (am_v4 (fun x0 x2 x3 x5 σ => B_Part_letters_1 X Q x0 x2 x3 x5 σ))] j v σ
def T_Part_letters : List Int → AMem → (Int → AMem → Prop) → Prop := am_T B_Part_letters
abbrev y_Part_letters : MethodName := ⟨"LinkHouse$Part", "letters", "(I)I"⟩
def a_Part_letters : AC := (12, (y_Part_letters, prog_6_method_13_code, 7, (Option.some Jvm.ClassFile.FieldType.int)), [2, 0], 0, false, { frames := 1, cells := 0, slots := 0, locals := 34 }, T_Part_letters)
set_option maxRecDepth 100000 in
theorem ms_Part_letters : am_MSp a_Part_letters := am_ms_v 2238 8 2236 2237 7 rfl (by decide +kernel)
abbrev k_Part_letters : List AC := [a_Part_number]
set_option maxRecDepth 100000 in
theorem s_Part_letters : (am_chkR { frames := 1, cells := 0, slots := 0, locals := 34 } k_Part_letters && am_chkN c_Part_letters { frames := 1, cells := 0, slots := 0, locals := 34 } && c_Part_letters.all (am_chk "LinkHouse$Part" prog_6_method_13_code 7 (Option.some Jvm.ClassFile.FieldType.int) k_Part_letters) && c_Part_letters.all (am_chkL m_Part_letters) && decide (m_Part_letters[0]? = some (0, am_argp 0 [2, 0], [])) && decide (am_argn [2, 0] ≤ 7)) = true := by decide +kernel
set_option maxHeartbeats 150000 in
set_option maxRecDepth 100000 in
theorem h_Part_letters : ∀ X Q j v σ, B_Part_letters X Q j v σ → am_at GR k_Part_letters c_Part_letters m_Part_letters X Q 55 j v σ := fun X Q => am_sel_all (P := fun j v σ => am_at GR k_Part_letters c_Part_letters m_Part_letters X Q 55 j v σ) (⟨(am_v2_of (fun x0 x1 σ h => h)), ⟨(am_v4_of (fun x0 x2 x3 x5 σ h => h)), trivial⟩⟩)
set_option maxRecDepth 100000 in
theorem S_Part_letters (l : Launch) (w : AW) : am_S l w GR a_Part_letters := am_sound (rt := 0) (cal := k_Part_letters) 12 y_Part_letters prog_6_method_13_code 7 (Option.some Jvm.ClassFile.FieldType.int) [2, 0] false { frames := 1, cells := 0, slots := 0, locals := 34 } B_Part_letters "LinkHouse$Part" c_Part_letters m_Part_letters 55 ms_Part_letters (by decide +kernel) rfl rfl (am_cal (S_Part_number l w) (fun _ h => absurd h List.not_mem_nil)) s_Part_letters h_Part_letters
set_option maxRecDepth 100000 in
theorem of_Part_letters {Q : Int → AMem → Prop} {x0 x1 : Int} {σ : AMem} (h : ∀ X : Nat → List Int → AMem → Prop, (∀ (x0 x1 : Int) (σ : AMem), B_Part_letters_0 X Q x0 x1 σ → X 0 [x0, x1] σ) → (∀ (x0 x2 x3 x5 : Int) (σ : AMem), B_Part_letters_1 X Q x0 x2 x3 x5 σ → X 1 [x0, x2, x3, x5] σ) → X 0 [x0, x1] σ) : T_Part_letters [x0, x1] σ Q := fun X hX => h X (fun x0 x1 σ h => hX 0 [x0, x1] σ h) (fun x0 x2 x3 x5 σ h => hX 1 [x0, x2, x3, x5] σ h)
def c_Part_letter : List aE := [(0, 1, .aload_n 0, 1, 0, 0, []), (1, 0, .aload_n 0, 1, 0, 0, []), (2, 0, .getfield 21, 3, 7, 11, [2, 0, 1087]), (5, 0, .aload_n 0, 1, 0, 0, []), (6, 0, .getfield 15, 3, 7, 9, [2, 0, 1084]), (9, 0, .aload_n 0, 1, 0, 0, []), (10, 0, .getfield 148, 3, 7, 5, [0, 0, 1076]), (13, 0, .iaload, 1, 0, 0, []), (14, 0, .iaload, 1, 0, 0, []), (15, 0, .i2l, 1, 0, 0, []), (16, 0, .aload_n 0, 1, 0, 0, []), (17, 0, .getfield 43, 3, 7, 18, [2, 0, 1103]), (20, 0, .iload_n 1, 1, 0, 0, []), (21, 0, .iaload, 1, 0, 0, []), (22, 0, .i2l, 1, 0, 0, []), (23, 0, .ladd, 1, 0, 0, []), (24, 0, .iload_n 2, 1, 0, 0, []), (25, 0, .i2l, 1, 0, 0, []), (26, 0, .ladd, 1, 0, 0, []), (27, 0, .iconst 1, 1, 0, 0, []), (28, 0, .invokevirtual 112, 3, 11, 7, [3000]), (31, 0, .l2i, 1, 0, 0, []), (32, 0, .ireturn, 1, 0, 0, [])]
def m_Part_letter : List aT := [(0, [(0, 2), (1, 0), (2, 0)], [])]
def B_Part_letter_0 (X : Nat → List Int → AMem → Prop) (Q : Int → AMem → Prop) (x0 x1 x2 : Int) (σ : AMem) : Prop :=
  (if ly_k x0 = 27 then (if ly_k x0 = 27 then (if ly_k x0 = 27 then (if ly_k (am_rd GR σ x0 9) = 1 then 0 ≤ (am_rd GR σ x0 5) ∧ (am_rd GR σ x0 5) < ly_l (am_rd GR σ x0 9) ∧ (if ly_k (am_rd GR σ x0 11) = 1 then 0 ≤ (σ (am_rd GR σ x0 9) (am_rd GR σ x0 5)) ∧ (σ (am_rd GR σ x0 9) (am_rd GR σ x0 5)) < ly_l (am_rd GR σ x0 11) ∧ (if ly_k x0 = 27 then (if ly_k (am_rd GR σ x0 18) = 1 then 0 ≤ x1 ∧ x1 < ly_l (am_rd GR σ x0 18) ∧ (if ly_k x0 = 27 then T_Part_number [x0, (w64 ((w64 ((σ (am_rd GR σ x0 11) (σ (am_rd GR σ x0 9) (am_rd GR σ x0 5))) + (σ (am_rd GR σ x0 18) x1))) + x2)), 1] σ (fun r1 σ2 => Q (w32 r1) σ2) else False) else False) else False) else False) else False) else False) else False) else False)
def B_Part_letter : (Nat → List Int → AMem → Prop) → (Int → AMem → Prop) → Nat → List Int → AMem → Prop := fun X Q j v σ => am_sel [(am_v3 (fun x0 x1 x2 σ => B_Part_letter_0 X Q x0 x1 x2 σ))] j v σ
def T_Part_letter : List Int → AMem → (Int → AMem → Prop) → Prop := am_T B_Part_letter
abbrev y_Part_letter : MethodName := ⟨"LinkHouse$Part", "letter", "(II)I"⟩
def a_Part_letter : AC := (13, (y_Part_letter, prog_6_method_14_code, 3, (Option.some Jvm.ClassFile.FieldType.int)), [2, 0, 0], 0, false, { frames := 1, cells := 0, slots := 0, locals := 34 }, T_Part_letter)
set_option maxRecDepth 100000 in
theorem ms_Part_letter : am_MSp a_Part_letter := am_ms_v 3016 8 3014 3015 7 rfl (by decide +kernel)
abbrev k_Part_letter : List AC := [a_Part_number]
set_option maxRecDepth 100000 in
theorem s_Part_letter : (am_chkR { frames := 1, cells := 0, slots := 0, locals := 34 } k_Part_letter && am_chkN c_Part_letter { frames := 1, cells := 0, slots := 0, locals := 34 } && c_Part_letter.all (am_chk "LinkHouse$Part" prog_6_method_14_code 3 (Option.some Jvm.ClassFile.FieldType.int) k_Part_letter) && c_Part_letter.all (am_chkL m_Part_letter) && decide (m_Part_letter[0]? = some (0, am_argp 0 [2, 0, 0], [])) && decide (am_argn [2, 0, 0] ≤ 3)) = true := by decide +kernel
set_option maxHeartbeats 150000 in
set_option maxRecDepth 100000 in
theorem h_Part_letter : ∀ X Q j v σ, B_Part_letter X Q j v σ → am_at GR k_Part_letter c_Part_letter m_Part_letter X Q 28 j v σ := fun X Q => am_sel_all (P := fun j v σ => am_at GR k_Part_letter c_Part_letter m_Part_letter X Q 28 j v σ) (⟨(am_v3_of (fun x0 x1 x2 σ h => h)), trivial⟩)
set_option maxRecDepth 100000 in
theorem S_Part_letter (l : Launch) (w : AW) : am_S l w GR a_Part_letter := am_sound (rt := 0) (cal := k_Part_letter) 13 y_Part_letter prog_6_method_14_code 3 (Option.some Jvm.ClassFile.FieldType.int) [2, 0, 0] false { frames := 1, cells := 0, slots := 0, locals := 34 } B_Part_letter "LinkHouse$Part" c_Part_letter m_Part_letter 28 ms_Part_letter (by decide +kernel) rfl rfl (am_cal (S_Part_number l w) (fun _ h => absurd h List.not_mem_nil)) s_Part_letter h_Part_letter
set_option maxRecDepth 100000 in
theorem of_Part_letter {Q : Int → AMem → Prop} {x0 x1 x2 : Int} {σ : AMem} (h : ∀ X : Nat → List Int → AMem → Prop, (∀ (x0 x1 x2 : Int) (σ : AMem), B_Part_letter_0 X Q x0 x1 x2 σ → X 0 [x0, x1, x2] σ) → X 0 [x0, x1, x2] σ) : T_Part_letter [x0, x1, x2] σ Q := fun X hX => h X (fun x0 x1 x2 σ h => hX 0 [x0, x1, x2] σ h)
set_option maxRecDepth 100000 in
theorem iff_Part_letter {Q : Int → AMem → Prop} {X : Nat → List Int → AMem → Prop} {x0 x1 x2 : Int} {σ : AMem} : T_Part_letter [x0, x1, x2] σ Q ↔ B_Part_letter_0 X Q x0 x1 x2 σ := ⟨fun h => h (fun j v σ => B_Part_letter X Q j v σ) (fun _ _ _ q => q), fun h _ hX => hX 0 _ _ h⟩
def c_Names_hash : List aE := [(0, 1, .iload_n 3, 1, 0, 0, []), (1, 0, .istore 4, 2, 0, 0, []), (3, 0, .iconst 0, 1, 0, 0, []), (4, 0, .istore 5, 2, 0, 0, []), (6, 2, .iload 5, 2, 0, 0, []), (8, 0, .iload_n 3, 1, 0, 0, []), (9, 0, .if_icmp .ge 23, 3, 0, 0, []), (12, 0, .iload 4, 2, 0, 0, []), (14, 0, .aload_n 1, 1, 0, 0, []), (15, 0, .iload_n 2, 1, 0, 0, []), (16, 0, .iload 5, 2, 0, 0, []), (18, 0, .invokevirtual 31, 3, 13, 7, [3013]), (21, 0, .invokestatic 37, 3, 4, 0, [2201]), (24, 0, .istore 4, 2, 0, 0, []), (26, 0, .iinc 5 1, 3, 0, 0, []), (29, 0, .goto (-23), 3, 0, 0, []), (32, 0, .iload 4, 2, 0, 0, []), (34, 0, .ireturn, 1, 0, 0, [])]
def m_Names_hash : List aT := [(0, [(0, 2), (1, 2), (2, 0), (3, 0)], []), (6, [(1, 2), (2, 0), (3, 0), (4, 0), (5, 0)], [])]
def B_Names_hash_0 (X : Nat → List Int → AMem → Prop) (Q : Int → AMem → Prop) (x1 x2 x3 : Int) (σ : AMem) : Prop :=
  X 1 [x1, x2, x3, x3, 0] σ
def B_Names_hash_1 (X : Nat → List Int → AMem → Prop) (Q : Int → AMem → Prop) (x1 x2 x3 x4 x5 : Int) (σ : AMem) : Prop :=
  (if x5 < x3 then
  (if ly_k x1 = 27 then T_Part_letter [x1, x2, x5] σ (fun r1 σ2 => T_Names_mix [x4, r1] σ2 (fun r3 σ4 => am_r32 (x5 + 1) ∧ X 1 [x1, x2, x3, r3, (x5 + 1)] σ4)) else False)
  else
  Q x4 σ)
def B_Names_hash : (Nat → List Int → AMem → Prop) → (Int → AMem → Prop) → Nat → List Int → AMem → Prop := fun X Q j v σ => am_sel [(am_v4 (fun t x1 x2 x3 σ => if t = 16 then B_Names_hash_0 X Q x1 x2 x3 σ else False)), (am_v5 (fun x1 x2 x3 x4 x5 σ => B_Names_hash_1 X Q x1 x2 x3 x4 x5 σ))] j v σ
def T_Names_hash : List Int → AMem → (Int → AMem → Prop) → Prop := am_T B_Names_hash
abbrev y_Names_hash : MethodName := ⟨"LinkHouse$Names", "hash", "(LLinkHouse$Part;II)I"⟩
def a_Names_hash : AC := (14, (y_Names_hash, prog_5_method_4_code, 6, (Option.some Jvm.ClassFile.FieldType.int)), [2, 2, 0, 0], 0, false, { frames := 2, cells := 0, slots := 0, locals := 64 }, T_Names_hash)
set_option maxRecDepth 100000 in
theorem ms_Names_hash : am_MSp a_Names_hash := am_ms_v 3012 3 3011 100006 2 rfl (by decide +kernel)
abbrev k_Names_hash : List AC := [a_Part_letter, a_Names_mix]
set_option maxRecDepth 100000 in
theorem s_Names_hash : (am_chkR { frames := 2, cells := 0, slots := 0, locals := 64 } k_Names_hash && am_chkN c_Names_hash { frames := 2, cells := 0, slots := 0, locals := 64 } && c_Names_hash.all (am_chk "LinkHouse$Names" prog_5_method_4_code 6 (Option.some Jvm.ClassFile.FieldType.int) k_Names_hash) && c_Names_hash.all (am_chkL m_Names_hash) && decide (m_Names_hash[0]? = some (0, am_argp 0 [2, 2, 0, 0], [])) && decide (am_argn [2, 2, 0, 0] ≤ 6)) = true := by decide +kernel
set_option maxHeartbeats 150000 in
set_option maxRecDepth 100000 in
theorem h_Names_hash : ∀ X Q j v σ, B_Names_hash X Q j v σ → am_at GR k_Names_hash c_Names_hash m_Names_hash X Q 23 j v σ := fun X Q => am_sel_all (P := fun j v σ => am_at GR k_Names_hash c_Names_hash m_Names_hash X Q 23 j v σ) (⟨(am_v4_of (fun t x1 x2 x3 σ h => am_tk (fun e => by subst e; exact fun h => h) h)), ⟨(am_v5_of (fun x1 x2 x3 x4 x5 σ h => h)), trivial⟩⟩)
set_option maxRecDepth 100000 in
theorem S_Names_hash (l : Launch) (w : AW) : am_S l w GR a_Names_hash := am_sound (rt := 0) (cal := k_Names_hash) 14 y_Names_hash prog_5_method_4_code 6 (Option.some Jvm.ClassFile.FieldType.int) [2, 2, 0, 0] false { frames := 2, cells := 0, slots := 0, locals := 64 } B_Names_hash "LinkHouse$Names" c_Names_hash m_Names_hash 23 ms_Names_hash (by decide +kernel) rfl rfl (am_cal (S_Part_letter l w) (am_cal (S_Names_mix l w) (fun _ h => absurd h List.not_mem_nil))) s_Names_hash h_Names_hash
set_option maxRecDepth 100000 in
theorem of_Names_hash {Q : Int → AMem → Prop} {x1 x2 x3 : Int} {σ : AMem} (h : ∀ X : Nat → List Int → AMem → Prop, (∀ (x1 x2 x3 : Int) (σ : AMem), B_Names_hash_0 X Q x1 x2 x3 σ → X 0 [16, x1, x2, x3] σ) → (∀ (x1 x2 x3 x4 x5 : Int) (σ : AMem), B_Names_hash_1 X Q x1 x2 x3 x4 x5 σ → X 1 [x1, x2, x3, x4, x5] σ) → X 0 [16, x1, x2, x3] σ) : T_Names_hash [16, x1, x2, x3] σ Q := fun X hX => h X (fun x1 x2 x3 σ h => hX 0 [16, x1, x2, x3] σ h) (fun x1 x2 x3 x4 x5 σ h => hX 1 [x1, x2, x3, x4, x5] σ h)
def c_Name_is : List aE := [(0, 1, .iload_n 3, 1, 0, 0, []), (1, 0, .aload_n 0, 1, 0, 0, []), (2, 0, .getfield 15, 3, 3, 1, [0, 0, 115]), (5, 0, .if_icmp .ne 7, 3, 0, 0, []), (8, 0, .iconst 1, 1, 0, 0, []), (9, 0, .goto 4, 3, 0, 0, []), (12, 0, .iconst 0, 1, 0, 0, []), (13, 2, .istore 4, 2, 0, 0, []), (15, 0, .iconst 0, 1, 0, 0, []), (16, 0, .istore 5, 2, 0, 0, []), (18, 3, .iload 5, 2, 0, 0, []), (20, 0, .iload_n 3, 1, 0, 0, []), (21, 0, .if_icmp .ge 39, 3, 0, 0, []), (24, 0, .iload 4, 2, 0, 0, []), (26, 0, .ifCond .eq 34, 3, 0, 0, []), (29, 0, .aload_n 0, 1, 0, 0, []), (30, 0, .getfield 9, 3, 3, 0, [2, 0, 112]), (33, 0, .iload 5, 2, 0, 0, []), (35, 0, .baload, 1, 2, 0, []), (36, 0, .aload_n 1, 1, 0, 0, []), (37, 0, .iload_n 2, 1, 0, 0, []), (38, 0, .iload 5, 2, 0, 0, []), (40, 0, .invokevirtual 19, 3, 13, 7, [3021]), (43, 0, .i2b, 1, 0, 0, []), (44, 0, .if_icmp .ne 7, 3, 0, 0, []), (47, 0, .iconst 1, 1, 0, 0, []), (48, 0, .goto 4, 3, 0, 0, []), (51, 0, .iconst 0, 1, 0, 0, []), (52, 4, .istore 4, 2, 0, 0, []), (54, 0, .iinc 5 1, 3, 0, 0, []), (57, 0, .goto (-39), 3, 0, 0, []), (60, 0, .iload 4, 2, 0, 0, []), (62, 0, .ireturn, 1, 1, 0, [])]
def m_Name_is : List aT := [(0, [(0, 2), (1, 2), (2, 0), (3, 0)], []), (13, [(0, 2), (1, 2), (2, 0), (3, 0)], [0]), (18, [(0, 2), (1, 2), (2, 0), (3, 0), (4, 0), (5, 0)], []), (52, [(0, 2), (1, 2), (2, 0), (3, 0), (5, 0)], [0])]
def B_Name_is_0 (X : Nat → List Int → AMem → Prop) (Q : Int → AMem → Prop) (x0 x1 x2 x3 : Int) (σ : AMem) : Prop :=
  (if ly_k x0 = 23 then (if x3 = (am_rd GR σ x0 1) then
  X 1 [x0, x1, x2, x3, 1] σ
  else
  X 1 [x0, x1, x2, x3, 0] σ) else False)
def B_Name_is_1 (X : Nat → List Int → AMem → Prop) (Q : Int → AMem → Prop) (x0 x1 x2 x3 s0 : Int) (σ : AMem) : Prop :=
  X 2 [x0, x1, x2, x3, s0, 0] σ
def B_Name_is_2 (X : Nat → List Int → AMem → Prop) (Q : Int → AMem → Prop) (x0 x1 x2 x3 x4 x5 : Int) (σ : AMem) : Prop :=
  (if x5 < x3 then
  (if x4 = 0 then
    (if x4 = 0 ∨ x4 = 1 then Q x4 σ else False)
    else
    (if ly_k x0 = 23 then (if ly_k (am_rd GR σ x0 0) = 2 then 0 ≤ x5 ∧ x5 < ly_l (am_rd GR σ x0 0) ∧ (if ly_k x1 = 27 then T_Part_letter [x1, x2, x5] σ (fun r1 σ2 => (if (σ (am_rd GR σ x0 0) x5) = (w8 r1) then
      X 3 [x0, x1, x2, x3, x5, 1] σ2
      else
      X 3 [x0, x1, x2, x3, x5, 0] σ2)) else False) else False) else False))
  else
  (if x4 = 0 ∨ x4 = 1 then Q x4 σ else False))
def B_Name_is_3 (X : Nat → List Int → AMem → Prop) (Q : Int → AMem → Prop) (x0 x1 x2 x3 x5 s0 : Int) (σ : AMem) : Prop :=
  am_r32 (x5 + 1) ∧ X 2 [x0, x1, x2, x3, s0, (x5 + 1)] σ
def B_Name_is : (Nat → List Int → AMem → Prop) → (Int → AMem → Prop) → Nat → List Int → AMem → Prop := fun X Q j v σ => am_sel [(am_v4 (fun x0 x1 x2 x3 σ => B_Name_is_0 X Q x0 x1 x2 x3 σ)), (am_v5 (fun x0 x1 x2 x3 s0 σ => B_Name_is_1 X Q x0 x1 x2 x3 s0 σ)), (am_v6 (fun x0 x1 x2 x3 x4 x5 σ => B_Name_is_2 X Q x0 x1 x2 x3 x4 x5 σ)), (am_v6 (fun x0 x1 x2 x3 x5 s0 σ => B_Name_is_3 X Q x0 x1 x2 x3 x5 s0 σ))] j v σ
def T_Name_is : List Int → AMem → (Int → AMem → Prop) → Prop := am_T B_Name_is
abbrev y_Name_is : MethodName := ⟨"LinkHouse$Name", "is", "(LLinkHouse$Part;II)Z"⟩
def a_Name_is : AC := (15, (y_Name_is, prog_4_method_2_code, 6, (Option.some Jvm.ClassFile.FieldType.boolean)), [2, 2, 0, 0], 0, false, { frames := 2, cells := 0, slots := 0, locals := 64 }, T_Name_is)
set_option maxRecDepth 100000 in
theorem ms_Name_is : am_MSp a_Name_is := am_ms_v 3020 4 3018 3019 3 rfl (by decide +kernel)
abbrev k_Name_is : List AC := [a_Part_letter]
set_option maxRecDepth 100000 in
theorem s_Name_is : (am_chkR { frames := 2, cells := 0, slots := 0, locals := 64 } k_Name_is && am_chkN c_Name_is { frames := 2, cells := 0, slots := 0, locals := 64 } && c_Name_is.all (am_chk "LinkHouse$Name" prog_4_method_2_code 6 (Option.some Jvm.ClassFile.FieldType.boolean) k_Name_is) && c_Name_is.all (am_chkL m_Name_is) && decide (m_Name_is[0]? = some (0, am_argp 0 [2, 2, 0, 0], [])) && decide (am_argn [2, 2, 0, 0] ≤ 6)) = true := by decide +kernel
set_option maxHeartbeats 150000 in
set_option maxRecDepth 100000 in
theorem h_Name_is : ∀ X Q j v σ, B_Name_is X Q j v σ → am_at GR k_Name_is c_Name_is m_Name_is X Q 38 j v σ := fun X Q => am_sel_all (P := fun j v σ => am_at GR k_Name_is c_Name_is m_Name_is X Q 38 j v σ) (⟨(am_v4_of (fun x0 x1 x2 x3 σ h => h)), ⟨(am_v5_of (fun x0 x1 x2 x3 s0 σ h => h)), ⟨(am_v6_of (fun x0 x1 x2 x3 x4 x5 σ h => h)), ⟨(am_v6_of (fun x0 x1 x2 x3 x5 s0 σ h => h)), trivial⟩⟩⟩⟩)
set_option maxRecDepth 100000 in
theorem S_Name_is (l : Launch) (w : AW) : am_S l w GR a_Name_is := am_sound (rt := 0) (cal := k_Name_is) 15 y_Name_is prog_4_method_2_code 6 (Option.some Jvm.ClassFile.FieldType.boolean) [2, 2, 0, 0] false { frames := 2, cells := 0, slots := 0, locals := 64 } B_Name_is "LinkHouse$Name" c_Name_is m_Name_is 38 ms_Name_is (by decide +kernel) rfl rfl (am_cal (S_Part_letter l w) (fun _ h => absurd h List.not_mem_nil)) s_Name_is h_Name_is
set_option maxRecDepth 100000 in
theorem of_Name_is {Q : Int → AMem → Prop} {x0 x1 x2 x3 : Int} {σ : AMem} (h : ∀ X : Nat → List Int → AMem → Prop, (∀ (x0 x1 x2 x3 : Int) (σ : AMem), B_Name_is_0 X Q x0 x1 x2 x3 σ → X 0 [x0, x1, x2, x3] σ) → (∀ (x0 x1 x2 x3 s0 : Int) (σ : AMem), B_Name_is_1 X Q x0 x1 x2 x3 s0 σ → X 1 [x0, x1, x2, x3, s0] σ) → (∀ (x0 x1 x2 x3 x4 x5 : Int) (σ : AMem), B_Name_is_2 X Q x0 x1 x2 x3 x4 x5 σ → X 2 [x0, x1, x2, x3, x4, x5] σ) → (∀ (x0 x1 x2 x3 x5 s0 : Int) (σ : AMem), B_Name_is_3 X Q x0 x1 x2 x3 x5 s0 σ → X 3 [x0, x1, x2, x3, x5, s0] σ) → X 0 [x0, x1, x2, x3] σ) : T_Name_is [x0, x1, x2, x3] σ Q := fun X hX => h X (fun x0 x1 x2 x3 σ h => hX 0 [x0, x1, x2, x3] σ h) (fun x0 x1 x2 x3 s0 σ h => hX 1 [x0, x1, x2, x3, s0] σ h) (fun x0 x1 x2 x3 x4 x5 σ h => hX 2 [x0, x1, x2, x3, x4, x5] σ h) (fun x0 x1 x2 x3 x5 s0 σ h => hX 3 [x0, x1, x2, x3, x5, s0] σ h)
def c_Names_find : List aE := [(0, 1, .aload_n 1, 1, 0, 0, []), (1, 0, .iload_n 2, 1, 0, 0, []), (2, 0, .invokevirtual 40, 3, 12, 7, [2235]), (5, 0, .istore_n 3, 1, 0, 0, []), (6, 0, .aload_n 0, 1, 0, 0, []), (7, 0, .getfield 17, 3, 2, 1, [2, 0, 194]), (10, 0, .aload_n 0, 1, 0, 0, []), (11, 0, .aload_n 1, 1, 0, 0, []), (12, 0, .iload_n 2, 1, 0, 0, []), (13, 0, .iload_n 3, 1, 0, 0, []), (14, 0, .invokevirtual 44, 3, 14, 2, [3009]), (17, 0, .aaload, 1, 6, 0, []), (18, 0, .astore 4, 2, 0, 0, []), (20, 2, .aload 4, 2, 0, 0, []), (22, 0, .ifnull 24, 3, 0, 0, []), (25, 0, .aload 4, 2, 0, 0, []), (27, 0, .aload_n 1, 1, 0, 0, []), (28, 0, .iload_n 2, 1, 0, 0, []), (29, 0, .iload_n 3, 1, 0, 0, []), (30, 0, .invokevirtual 48, 3, 15, 3, [3017]), (33, 0, .ifCond .ne 13, 3, 0, 0, []), (36, 0, .aload 4, 2, 0, 0, []), (38, 0, .getfield 52, 3, 3, 18, [2, 0, 152]), (41, 0, .astore 4, 2, 0, 0, []), (43, 0, .goto (-23), 3, 0, 0, []), (46, 0, .aload 4, 2, 0, 0, []), (48, 0, .areturn, 1, 0, 0, [])]
def m_Names_find : List aT := [(0, [(0, 2), (1, 2), (2, 0)], []), (20, [(1, 2), (2, 0), (3, 0), (4, 2)], [])]
def B_Names_find_0 (X : Nat → List Int → AMem → Prop) (Q : Int → AMem → Prop) (x1 x2 : Int) (σ : AMem) : Prop :=
  (if ly_k x1 = 27 then T_Part_letters [x1, x2] σ (fun r1 σ2 => T_Names_hash [16, x1, x2, r1] σ2 (fun r3 σ4 => 0 ≤ r3 ∧ r3 < 1024 ∧ X 1 [x1, x2, r1, (σ4 18 r3)] σ4)) else False)
def B_Names_find_1 (X : Nat → List Int → AMem → Prop) (Q : Int → AMem → Prop) (x1 x2 x3 x4 : Int) (σ : AMem) : Prop :=
  (if x4 = 0 then
  Q x4 σ
  else
  (if ly_k x4 = 23 then T_Name_is [x4, x1, x2, x3] σ (fun r1 σ2 => (if r1 = 0 then
    (if ly_k x4 = 23 then X 1 [x1, x2, x3, (am_rd GR σ2 x4 18)] σ2 else False)
    else
    Q x4 σ2)) else False))
def B_Names_find : (Nat → List Int → AMem → Prop) → (Int → AMem → Prop) → Nat → List Int → AMem → Prop := fun X Q j v σ => am_sel [(am_v3 (fun t x1 x2 σ => if t = 16 then B_Names_find_0 X Q x1 x2 σ else False)), (am_v4 (fun x1 x2 x3 x4 σ => B_Names_find_1 X Q x1 x2 x3 x4 σ))] j v σ
def T_Names_find : List Int → AMem → (Int → AMem → Prop) → Prop := am_T B_Names_find
abbrev y_Names_find : MethodName := ⟨"LinkHouse$Names", "find", "(LLinkHouse$Part;I)LLinkHouse$Name;"⟩
def a_Names_find : AC := (16, (y_Names_find, prog_5_method_5_code, 5, (Option.some (Jvm.ClassFile.FieldType.object "LinkHouse$Name"))), [2, 2, 0], 2, false, { frames := 3, cells := 0, slots := 0, locals := 97 }, T_Names_find)
set_option maxRecDepth 100000 in
theorem ms_Names_find : am_MSp a_Names_find := am_ms_v 2234 3 2232 2233 2 rfl (by decide +kernel)
abbrev k_Names_find : List AC := [a_Part_letters, a_Names_hash, a_Name_is]
set_option maxRecDepth 100000 in
theorem s_Names_find : (am_chkR { frames := 3, cells := 0, slots := 0, locals := 97 } k_Names_find && am_chkN c_Names_find { frames := 3, cells := 0, slots := 0, locals := 97 } && c_Names_find.all (am_chk "LinkHouse$Names" prog_5_method_5_code 5 (Option.some (Jvm.ClassFile.FieldType.object "LinkHouse$Name")) k_Names_find) && c_Names_find.all (am_chkL m_Names_find) && decide (m_Names_find[0]? = some (0, am_argp 0 [2, 2, 0], [])) && decide (am_argn [2, 2, 0] ≤ 5)) = true := by decide +kernel
set_option maxHeartbeats 150000 in
set_option maxRecDepth 100000 in
theorem h_Names_find : ∀ X Q j v σ, B_Names_find X Q j v σ → am_at GR k_Names_find c_Names_find m_Names_find X Q 32 j v σ := fun X Q => am_sel_all (P := fun j v σ => am_at GR k_Names_find c_Names_find m_Names_find X Q 32 j v σ) (⟨(am_v3_of (fun t x1 x2 σ h => am_tk (fun e => by subst e; exact fun h => h) h)), ⟨(am_v4_of (fun x1 x2 x3 x4 σ h => h)), trivial⟩⟩)
set_option maxRecDepth 100000 in
theorem S_Names_find (l : Launch) (w : AW) : am_S l w GR a_Names_find := am_sound (rt := 2) (cal := k_Names_find) 16 y_Names_find prog_5_method_5_code 5 (Option.some (Jvm.ClassFile.FieldType.object "LinkHouse$Name")) [2, 2, 0] false { frames := 3, cells := 0, slots := 0, locals := 97 } B_Names_find "LinkHouse$Names" c_Names_find m_Names_find 32 ms_Names_find (by decide +kernel) rfl rfl (am_cal (S_Part_letters l w) (am_cal (S_Names_hash l w) (am_cal (S_Name_is l w) (fun _ h => absurd h List.not_mem_nil)))) s_Names_find h_Names_find
set_option maxRecDepth 100000 in
theorem of_Names_find {Q : Int → AMem → Prop} {x1 x2 : Int} {σ : AMem} (h : ∀ X : Nat → List Int → AMem → Prop, (∀ (x1 x2 : Int) (σ : AMem), B_Names_find_0 X Q x1 x2 σ → X 0 [16, x1, x2] σ) → (∀ (x1 x2 x3 x4 : Int) (σ : AMem), B_Names_find_1 X Q x1 x2 x3 x4 σ → X 1 [x1, x2, x3, x4] σ) → X 0 [16, x1, x2] σ) : T_Names_find [16, x1, x2] σ Q := fun X hX => h X (fun x1 x2 σ h => hX 0 [16, x1, x2] σ h) (fun x1 x2 x3 x4 σ h => hX 1 [x1, x2, x3, x4] σ h)
def c_LinkHouse_helps : List aE := [(0, 1, .iconst 1, 1, 0, 0, []), (1, 0, .istore_n 2, 1, 0, 0, []), (2, 2, .iload_n 2, 1, 0, 0, []), (3, 0, .aload_n 1, 1, 0, 0, []), (4, 0, .getfield 247, 3, 7, 4, [0, 0, 1075]), (7, 0, .if_icmp .ge 50, 3, 0, 0, []), (10, 0, .aload_n 1, 1, 0, 0, []), (11, 0, .iload_n 2, 1, 0, 0, []), (12, 0, .invokevirtual 286, 3, 10, 7, [2227]), (15, 0, .ifCond .ne 6, 3, 0, 0, []), (18, 0, .goto 33, 3, 0, 0, []), (21, 0, .aload_n 0, 1, 0, 0, []), (22, 0, .getfield 25, 3, 0, 3, [2, 0, 1216]), (25, 0, .aload_n 1, 1, 0, 0, []), (26, 0, .iload_n 2, 1, 0, 0, []), (27, 0, .invokevirtual 289, 3, 16, 2, [2231]), (30, 0, .astore_n 3, 1, 0, 0, []), (31, 0, .aload_n 3, 1, 0, 0, []), (32, 0, .ifnull 19, 3, 0, 0, []), (35, 0, .aload_n 3, 1, 0, 0, []), (36, 0, .getfield 275, 3, 3, 8, [0, 1, 133]), (39, 0, .ifCond .eq 12, 3, 0, 0, []), (42, 0, .aload_n 3, 1, 0, 0, []), (43, 0, .getfield 292, 3, 3, 2, [0, 0, 120]), (46, 0, .ifCond .ne 5, 3, 0, 0, []), (49, 0, .iload_n 2, 1, 0, 0, []), (50, 0, .ireturn, 1, 0, 0, []), (51, 3, .iinc 2 1, 3, 0, 0, []), (54, 0, .goto (-52), 3, 0, 0, []), (57, 0, .iconst 0, 1, 0, 0, []), (58, 0, .ireturn, 1, 0, 0, [])]
def m_LinkHouse_helps : List aT := [(0, [(0, 2), (1, 2)], []), (2, [(0, 2), (1, 2), (2, 0)], []), (51, [(0, 2), (1, 2), (2, 0)], [])]
def B_LinkHouse_helps_0 (X : Nat → List Int → AMem → Prop) (Q : Int → AMem → Prop) (x1 : Int) (σ : AMem) : Prop :=
  X 1 [1, x1, 1] σ
def B_LinkHouse_helps_1 (X : Nat → List Int → AMem → Prop) (Q : Int → AMem → Prop) (x1 x2 : Int) (σ : AMem) : Prop :=
  (if ly_k x1 = 27 then (if x2 < (am_rd GR σ x1 4) then
  (if ly_k x1 = 27 then T_Part_defines [x1, x2] σ (fun r1 σ2 => (if r1 = 0 then
    X 2 [1, x1, x2] σ2
    else
    T_Names_find [16, x1, x2] σ2 (fun r3 σ4 => (if r3 = 0 then
      X 2 [1, x1, x2] σ4
      else
      (if ly_k r3 = 23 then (if (am_rd GR σ4 r3 8) = 0 then
        X 2 [1, x1, x2] σ4
        else
        (if ly_k r3 = 23 then (if (am_rd GR σ4 r3 2) = 0 then
          Q x2 σ4
          else
          X 2 [1, x1, x2] σ4) else False)) else False))))) else False)
  else
  Q 0 σ) else False)
def B_LinkHouse_helps_2 (X : Nat → List Int → AMem → Prop) (Q : Int → AMem → Prop) (x1 x2 : Int) (σ : AMem) : Prop :=
  am_r32 (x2 + 1) ∧ X 1 [1, x1, (x2 + 1)] σ
def B_LinkHouse_helps : (Nat → List Int → AMem → Prop) → (Int → AMem → Prop) → Nat → List Int → AMem → Prop := fun X Q j v σ => am_sel [(am_v2 (fun t x1 σ => if t = 1 then B_LinkHouse_helps_0 X Q x1 σ else False)), (am_v3 (fun t x1 x2 σ => if t = 1 then B_LinkHouse_helps_1 X Q x1 x2 σ else False)), (am_v3 (fun t x1 x2 σ => if t = 1 then B_LinkHouse_helps_2 X Q x1 x2 σ else False))] j v σ
def T_LinkHouse_helps : List Int → AMem → (Int → AMem → Prop) → Prop := am_T B_LinkHouse_helps
abbrev y_LinkHouse_helps : MethodName := ⟨"LinkHouse", "helps", "(LLinkHouse$Part;)I"⟩
def a_LinkHouse_helps : AC := (17, (y_LinkHouse_helps, prog_1_method_12_code, 4, (Option.some Jvm.ClassFile.FieldType.int)), [2, 2], 0, false, { frames := 4, cells := 0, slots := 0, locals := 129 }, T_LinkHouse_helps)
set_option maxRecDepth 100000 in
theorem ms_LinkHouse_helps : am_MSp a_LinkHouse_helps := am_ms_v 2226 1 2225 100005 0 rfl (by decide +kernel)
abbrev k_LinkHouse_helps : List AC := [a_Part_defines, a_Names_find]
set_option maxRecDepth 100000 in
theorem s_LinkHouse_helps : (am_chkR { frames := 4, cells := 0, slots := 0, locals := 129 } k_LinkHouse_helps && am_chkN c_LinkHouse_helps { frames := 4, cells := 0, slots := 0, locals := 129 } && c_LinkHouse_helps.all (am_chk "LinkHouse" prog_1_method_12_code 4 (Option.some Jvm.ClassFile.FieldType.int) k_LinkHouse_helps) && c_LinkHouse_helps.all (am_chkL m_LinkHouse_helps) && decide (m_LinkHouse_helps[0]? = some (0, am_argp 0 [2, 2], [])) && decide (am_argn [2, 2] ≤ 4)) = true := by decide +kernel
set_option maxHeartbeats 150000 in
set_option maxRecDepth 100000 in
theorem h_LinkHouse_helps : ∀ X Q j v σ, B_LinkHouse_helps X Q j v σ → am_at GR k_LinkHouse_helps c_LinkHouse_helps m_LinkHouse_helps X Q 36 j v σ := fun X Q => am_sel_all (P := fun j v σ => am_at GR k_LinkHouse_helps c_LinkHouse_helps m_LinkHouse_helps X Q 36 j v σ) (⟨(am_v2_of (fun t x1 σ h => am_tk (fun e => by subst e; exact fun h => h) h)), ⟨(am_v3_of (fun t x1 x2 σ h => am_tk (fun e => by subst e; exact fun h => h) h)), ⟨(am_v3_of (fun t x1 x2 σ h => am_tk (fun e => by subst e; exact fun h => h) h)), trivial⟩⟩⟩)
set_option maxRecDepth 100000 in
theorem S_LinkHouse_helps (l : Launch) (w : AW) : am_S l w GR a_LinkHouse_helps := am_sound (rt := 0) (cal := k_LinkHouse_helps) 17 y_LinkHouse_helps prog_1_method_12_code 4 (Option.some Jvm.ClassFile.FieldType.int) [2, 2] false { frames := 4, cells := 0, slots := 0, locals := 129 } B_LinkHouse_helps "LinkHouse" c_LinkHouse_helps m_LinkHouse_helps 36 ms_LinkHouse_helps (by decide +kernel) rfl rfl (am_cal (S_Part_defines l w) (am_cal (S_Names_find l w) (fun _ h => absurd h List.not_mem_nil))) s_LinkHouse_helps h_LinkHouse_helps
set_option maxRecDepth 100000 in
theorem of_LinkHouse_helps {Q : Int → AMem → Prop} {x1 : Int} {σ : AMem} (h : ∀ X : Nat → List Int → AMem → Prop, (∀ (x1 : Int) (σ : AMem), B_LinkHouse_helps_0 X Q x1 σ → X 0 [1, x1] σ) → (∀ (x1 x2 : Int) (σ : AMem), B_LinkHouse_helps_1 X Q x1 x2 σ → X 1 [1, x1, x2] σ) → (∀ (x1 x2 : Int) (σ : AMem), B_LinkHouse_helps_2 X Q x1 x2 σ → X 2 [1, x1, x2] σ) → X 0 [1, x1] σ) : T_LinkHouse_helps [1, x1] σ Q := fun X hX => h X (fun x1 σ h => hX 0 [1, x1] σ h) (fun x1 x2 σ h => hX 1 [1, x1, x2] σ h) (fun x1 x2 σ h => hX 2 [1, x1, x2] σ h)
def c_Part_isCause : List aE := [(0, 1, .aload_n 0, 1, 0, 0, []), (1, 0, .aload_n 0, 1, 0, 0, []), (2, 0, .iload_n 1, 1, 0, 0, []), (3, 0, .invokevirtual 191, 3, 12, 7, [3026]), (6, 0, .putfield 217, 3, 7, 31, [0, 0, 1128]), (9, 0, .iconst 0, 1, 0, 0, []), (10, 0, .istore_n 2, 1, 0, 0, []), (11, 2, .iload_n 2, 1, 0, 0, []), (12, 0, .aload_n 0, 1, 0, 0, []), (13, 0, .getfield 217, 3, 7, 31, [0, 0, 1128]), (16, 0, .if_icmp .ge 22, 3, 0, 0, []), (19, 0, .aload_n 0, 1, 0, 0, []), (20, 0, .getfield 77, 3, 7, 30, [2, 0, 1125]), (23, 0, .iload_n 2, 1, 0, 0, []), (24, 0, .aload_n 0, 1, 0, 0, []), (25, 0, .iload_n 1, 1, 0, 0, []), (26, 0, .iload_n 2, 1, 0, 0, []), (27, 0, .invokevirtual 220, 3, 13, 7, [3027]), (30, 0, .i2b, 1, 0, 0, []), (31, 0, .bastore, 1, 2, 0, []), (32, 0, .iinc 2 1, 3, 0, 0, []), (35, 0, .goto (-24), 3, 0, 0, []), (38, 0, .return_, 1, 0, 0, [])]
def m_Part_isCause : List aT := [(0, [(0, 2), (1, 0)], []), (11, [(0, 2), (1, 0), (2, 0)], [])]
def B_Part_isCause_0 (X : Nat → List Int → AMem → Prop) (Q : Int → AMem → Prop) (x0 x1 : Int) (σ : AMem) : Prop :=
  (if ly_k x0 = 27 then T_Part_letters [x0, x1] σ (fun r1 σ2 => (if ly_k x0 = 27 then (if ly_fin x0 31 = 0 then am_let (am_upd σ2 x0 31 r1) (fun σ3 => X 1 [x0, x1, 0] σ3) else False) else False)) else False)
def B_Part_isCause_1 (X : Nat → List Int → AMem → Prop) (Q : Int → AMem → Prop) (x0 x1 x2 : Int) (σ : AMem) : Prop :=
  (if ly_k x0 = 27 then (if x2 < (am_rd GR σ x0 31) then
  (if ly_k x0 = 27 then (if ly_k x0 = 27 then T_Part_letter [x0, x1, x2] σ (fun r1 σ2 => (if ly_k (am_rd GR σ x0 30) = 2 then 0 ≤ x2 ∧ x2 < ly_l (am_rd GR σ x0 30) ∧ am_let (am_upd σ2 (am_rd GR σ x0 30) x2 (w8 (w8 r1))) (fun σ3 => am_r32 (x2 + 1) ∧ X 1 [x0, x1, (x2 + 1)] σ3) else False)) else False) else False)
  else
  Q 0 σ) else False)
def B_Part_isCause : (Nat → List Int → AMem → Prop) → (Int → AMem → Prop) → Nat → List Int → AMem → Prop := fun X Q j v σ => am_sel [(am_v2 (fun x0 x1 σ => B_Part_isCause_0 X Q x0 x1 σ)), (am_v3 (fun x0 x1 x2 σ => B_Part_isCause_1 X Q x0 x1 x2 σ))] j v σ
def T_Part_isCause : List Int → AMem → (Int → AMem → Prop) → Prop := am_T B_Part_isCause
abbrev y_Part_isCause : MethodName := ⟨"LinkHouse$Part", "isCause", "(I)V"⟩
def a_Part_isCause : AC := (18, (y_Part_isCause, prog_6_method_25_code, 3, (Option.none : Option Jvm.ClassFile.FieldType)), [2, 0], 3, false, { frames := 2, cells := 0, slots := 0, locals := 68 }, T_Part_isCause)
set_option maxRecDepth 100000 in
theorem ms_Part_isCause : am_MSp a_Part_isCause := am_ms_v 3025 8 3023 3024 7 rfl (by decide +kernel)
abbrev k_Part_isCause : List AC := [a_Part_letters, a_Part_letter]
set_option maxRecDepth 100000 in
theorem s_Part_isCause : (am_chkR { frames := 2, cells := 0, slots := 0, locals := 68 } k_Part_isCause && am_chkN c_Part_isCause { frames := 2, cells := 0, slots := 0, locals := 68 } && c_Part_isCause.all (am_chk "LinkHouse$Part" prog_6_method_25_code 3 (Option.none : Option Jvm.ClassFile.FieldType) k_Part_isCause) && c_Part_isCause.all (am_chkL m_Part_isCause) && decide (m_Part_isCause[0]? = some (0, am_argp 0 [2, 0], [])) && decide (am_argn [2, 0] ≤ 3)) = true := by decide +kernel
set_option maxHeartbeats 150000 in
set_option maxRecDepth 100000 in
theorem h_Part_isCause : ∀ X Q j v σ, B_Part_isCause X Q j v σ → am_at GR k_Part_isCause c_Part_isCause m_Part_isCause X Q 28 j v σ := fun X Q => am_sel_all (P := fun j v σ => am_at GR k_Part_isCause c_Part_isCause m_Part_isCause X Q 28 j v σ) (⟨(am_v2_of (fun x0 x1 σ h => h)), ⟨(am_v3_of (fun x0 x1 x2 σ h => h)), trivial⟩⟩)
set_option maxRecDepth 100000 in
theorem S_Part_isCause (l : Launch) (w : AW) : am_S l w GR a_Part_isCause := am_sound (rt := 3) (cal := k_Part_isCause) 18 y_Part_isCause prog_6_method_25_code 3 (Option.none : Option Jvm.ClassFile.FieldType) [2, 0] false { frames := 2, cells := 0, slots := 0, locals := 68 } B_Part_isCause "LinkHouse$Part" c_Part_isCause m_Part_isCause 28 ms_Part_isCause (by decide +kernel) rfl rfl (am_cal (S_Part_letters l w) (am_cal (S_Part_letter l w) (fun _ h => absurd h List.not_mem_nil))) s_Part_isCause h_Part_isCause
set_option maxRecDepth 100000 in
theorem of_Part_isCause {Q : Int → AMem → Prop} {x0 x1 : Int} {σ : AMem} (h : ∀ X : Nat → List Int → AMem → Prop, (∀ (x0 x1 : Int) (σ : AMem), B_Part_isCause_0 X Q x0 x1 σ → X 0 [x0, x1] σ) → (∀ (x0 x1 x2 : Int) (σ : AMem), B_Part_isCause_1 X Q x0 x1 x2 σ → X 1 [x0, x1, x2] σ) → X 0 [x0, x1] σ) : T_Part_isCause [x0, x1] σ Q := fun X hX => h X (fun x0 x1 σ h => hX 0 [x0, x1] σ h) (fun x0 x1 x2 σ h => hX 1 [x0, x1, x2] σ h)
def c_Part_begin : List aE := [(0, 1, .iconst 0, 1, 0, 0, []), (1, 0, .istore_n 1, 1, 0, 0, []), (2, 2, .iload_n 1, 1, 0, 0, []), (3, 0, .aload_n 0, 1, 0, 0, []), (4, 0, .getfield 142, 3, 7, 3, [0, 0, 1072]), (7, 0, .if_icmp .ge 16, 3, 0, 0, []), (10, 0, .aload_n 0, 1, 0, 0, []), (11, 0, .getfield 71, 3, 7, 27, [2, 0, 1121]), (14, 0, .iload_n 1, 1, 0, 0, []), (15, 0, .iconst 0, 1, 0, 0, []), (16, 0, .bastore, 1, 3, 0, []), (17, 0, .iinc 1 1, 3, 0, 0, []), (20, 0, .goto (-18), 3, 0, 0, []), (23, 0, .return_, 1, 0, 0, [])]
def m_Part_begin : List aT := [(0, [(0, 2)], []), (2, [(0, 2), (1, 0)], [])]
def B_Part_begin_0 (X : Nat → List Int → AMem → Prop) (Q : Int → AMem → Prop) (x0 : Int) (σ : AMem) : Prop :=
  X 1 [x0, 0] σ
def B_Part_begin_1 (X : Nat → List Int → AMem → Prop) (Q : Int → AMem → Prop) (x0 x1 : Int) (σ : AMem) : Prop :=
  (if ly_k x0 = 27 then (if x1 < (am_rd GR σ x0 3) then
  (if ly_k x0 = 27 then (if ly_k (am_rd GR σ x0 27) = 3 then 0 ≤ x1 ∧ x1 < ly_l (am_rd GR σ x0 27) ∧ am_let (am_upd σ (am_rd GR σ x0 27) x1 0) (fun σ1 => am_r32 (x1 + 1) ∧ X 1 [x0, (x1 + 1)] σ1) else False) else False)
  else
  Q 0 σ) else False)
def B_Part_begin : (Nat → List Int → AMem → Prop) → (Int → AMem → Prop) → Nat → List Int → AMem → Prop := fun X Q j v σ => am_sel [(am_v1 (fun x0 σ => B_Part_begin_0 X Q x0 σ)), (am_v2 (fun x0 x1 σ => B_Part_begin_1 X Q x0 x1 σ))] j v σ
def T_Part_begin : List Int → AMem → (Int → AMem → Prop) → Prop := am_T B_Part_begin
abbrev y_Part_begin : MethodName := ⟨"LinkHouse$Part", "begin", "()V"⟩
def a_Part_begin : AC := (19, (y_Part_begin, prog_6_method_23_code, 2, (Option.none : Option Jvm.ClassFile.FieldType)), [2], 3, false, { frames := 0, cells := 0, slots := 0, locals := 0 }, T_Part_begin)
set_option maxRecDepth 100000 in
theorem ms_Part_begin : am_MSp a_Part_begin := am_ms_v 3039 8 3037 3038 7 rfl (by decide +kernel)
abbrev k_Part_begin : List AC := []
set_option maxRecDepth 100000 in
theorem s_Part_begin : (am_chkR { frames := 0, cells := 0, slots := 0, locals := 0 } k_Part_begin && am_chkN c_Part_begin { frames := 0, cells := 0, slots := 0, locals := 0 } && c_Part_begin.all (am_chk "LinkHouse$Part" prog_6_method_23_code 2 (Option.none : Option Jvm.ClassFile.FieldType) k_Part_begin) && c_Part_begin.all (am_chkL m_Part_begin) && decide (m_Part_begin[0]? = some (0, am_argp 0 [2], [])) && decide (am_argn [2] ≤ 2)) = true := by decide +kernel
set_option maxHeartbeats 150000 in
set_option maxRecDepth 100000 in
theorem h_Part_begin : ∀ X Q j v σ, B_Part_begin X Q j v σ → am_at GR k_Part_begin c_Part_begin m_Part_begin X Q 20 j v σ := fun X Q => am_sel_all (P := fun j v σ => am_at GR k_Part_begin c_Part_begin m_Part_begin X Q 20 j v σ) (⟨(am_v1_of (fun x0 σ h => h)), ⟨(am_v2_of (fun x0 x1 σ h => h)), trivial⟩⟩)
set_option maxRecDepth 100000 in
theorem S_Part_begin (l : Launch) (w : AW) : am_S l w GR a_Part_begin := am_sound (rt := 3) (cal := k_Part_begin) 19 y_Part_begin prog_6_method_23_code 2 (Option.none : Option Jvm.ClassFile.FieldType) [2] false { frames := 0, cells := 0, slots := 0, locals := 0 } B_Part_begin "LinkHouse$Part" c_Part_begin m_Part_begin 20 ms_Part_begin (by decide +kernel) rfl rfl (fun _ h => absurd h List.not_mem_nil) s_Part_begin h_Part_begin
set_option maxRecDepth 100000 in
theorem of_Part_begin {Q : Int → AMem → Prop} {x0 : Int} {σ : AMem} (h : ∀ X : Nat → List Int → AMem → Prop, (∀ (x0 : Int) (σ : AMem), B_Part_begin_0 X Q x0 σ → X 0 [x0] σ) → (∀ (x0 x1 : Int) (σ : AMem), B_Part_begin_1 X Q x0 x1 σ → X 1 [x0, x1] σ) → X 0 [x0] σ) : T_Part_begin [x0] σ Q := fun X hX => h X (fun x0 σ h => hX 0 [x0] σ h) (fun x0 x1 σ h => hX 1 [x0, x1] σ h)
def c_Part_isOnce : List aE := [(0, 1, .aload_n 0, 1, 0, 0, []), (1, 0, .getfield 9, 3, 7, 8, [2, 0, 1082]), (4, 0, .iload_n 1, 1, 0, 0, []), (5, 0, .iaload, 1, 0, 0, []), (6, 0, .bipush 17, 2, 0, 0, []), (8, 0, .if_icmp .ne 24, 3, 0, 0, []), (11, 0, .aload_n 0, 1, 0, 0, []), (12, 0, .aload_n 0, 1, 0, 0, []), (13, 0, .getfield 21, 3, 7, 11, [2, 0, 1087]), (16, 0, .iload_n 1, 1, 0, 0, []), (17, 0, .iaload, 1, 0, 0, []), (18, 0, .i2l, 1, 0, 0, []), (19, 0, .iconst 4, 1, 0, 0, []), (20, 0, .invokevirtual 112, 3, 11, 7, [3000]), (23, 0, .lconst 1, 1, 0, 0, []), (24, 0, .lcmp, 1, 0, 0, []), (25, 0, .ifCond .ne 7, 3, 0, 0, []), (28, 0, .iconst 1, 1, 0, 0, []), (29, 0, .goto 4, 3, 0, 0, []), (32, 0, .iconst 0, 1, 0, 0, []), (33, 0, .ireturn, 1, 1, 0, [])]
def m_Part_isOnce : List aT := [(0, [(0, 2), (1, 0)], [])]
def B_Part_isOnce_0 (X : Nat → List Int → AMem → Prop) (Q : Int → AMem → Prop) (x0 x1 : Int) (σ : AMem) : Prop :=
  (if ly_k x0 = 27 then (if ly_k (am_rd GR σ x0 8) = 1 then 0 ≤ x1 ∧ x1 < ly_l (am_rd GR σ x0 8) ∧ (if (σ (am_rd GR σ x0 8) x1) = 17 then
  (if ly_k x0 = 27 then (if ly_k (am_rd GR σ x0 11) = 1 then 0 ≤ x1 ∧ x1 < ly_l (am_rd GR σ x0 11) ∧ (if ly_k x0 = 27 then T_Part_number [x0, (σ (am_rd GR σ x0 11) x1), 4] σ (fun r1 σ2 => (if r1 = 1 then
    Q 1 σ2
    else
    Q 0 σ2)) else False) else False) else False)
  else
  Q 0 σ) else False) else False)
def B_Part_isOnce : (Nat → List Int → AMem → Prop) → (Int → AMem → Prop) → Nat → List Int → AMem → Prop := fun X Q j v σ => am_sel [(am_v2 (fun x0 x1 σ => B_Part_isOnce_0 X Q x0 x1 σ))] j v σ
def T_Part_isOnce : List Int → AMem → (Int → AMem → Prop) → Prop := am_T B_Part_isOnce
abbrev y_Part_isOnce : MethodName := ⟨"LinkHouse$Part", "isOnce", "(I)Z"⟩
def a_Part_isOnce : AC := (20, (y_Part_isOnce, prog_6_method_21_code, 2, (Option.some Jvm.ClassFile.FieldType.boolean)), [2, 0], 0, false, { frames := 1, cells := 0, slots := 0, locals := 34 }, T_Part_isOnce)
set_option maxRecDepth 100000 in
theorem ms_Part_isOnce : am_MSp a_Part_isOnce := am_ms_v 3043 8 3041 3042 7 rfl (by decide +kernel)
abbrev k_Part_isOnce : List AC := [a_Part_number]
set_option maxRecDepth 100000 in
theorem s_Part_isOnce : (am_chkR { frames := 1, cells := 0, slots := 0, locals := 34 } k_Part_isOnce && am_chkN c_Part_isOnce { frames := 1, cells := 0, slots := 0, locals := 34 } && c_Part_isOnce.all (am_chk "LinkHouse$Part" prog_6_method_21_code 2 (Option.some Jvm.ClassFile.FieldType.boolean) k_Part_isOnce) && c_Part_isOnce.all (am_chkL m_Part_isOnce) && decide (m_Part_isOnce[0]? = some (0, am_argp 0 [2, 0], [])) && decide (am_argn [2, 0] ≤ 2)) = true := by decide +kernel
set_option maxHeartbeats 150000 in
set_option maxRecDepth 100000 in
theorem h_Part_isOnce : ∀ X Q j v σ, B_Part_isOnce X Q j v σ → am_at GR k_Part_isOnce c_Part_isOnce m_Part_isOnce X Q 26 j v σ := fun X Q => am_sel_all (P := fun j v σ => am_at GR k_Part_isOnce c_Part_isOnce m_Part_isOnce X Q 26 j v σ) (⟨(am_v2_of (fun x0 x1 σ h => h)), trivial⟩)
set_option maxRecDepth 100000 in
theorem S_Part_isOnce (l : Launch) (w : AW) : am_S l w GR a_Part_isOnce := am_sound (rt := 0) (cal := k_Part_isOnce) 20 y_Part_isOnce prog_6_method_21_code 2 (Option.some Jvm.ClassFile.FieldType.boolean) [2, 0] false { frames := 1, cells := 0, slots := 0, locals := 34 } B_Part_isOnce "LinkHouse$Part" c_Part_isOnce m_Part_isOnce 26 ms_Part_isOnce (by decide +kernel) rfl rfl (am_cal (S_Part_number l w) (fun _ h => absurd h List.not_mem_nil)) s_Part_isOnce h_Part_isOnce
set_option maxRecDepth 100000 in
theorem of_Part_isOnce {Q : Int → AMem → Prop} {x0 x1 : Int} {σ : AMem} (h : ∀ X : Nat → List Int → AMem → Prop, (∀ (x0 x1 : Int) (σ : AMem), B_Part_isOnce_0 X Q x0 x1 σ → X 0 [x0, x1] σ) → X 0 [x0, x1] σ) : T_Part_isOnce [x0, x1] σ Q := fun X hX => h X (fun x0 x1 σ h => hX 0 [x0, x1] σ h)
set_option maxRecDepth 100000 in
theorem iff_Part_isOnce {Q : Int → AMem → Prop} {X : Nat → List Int → AMem → Prop} {x0 x1 : Int} {σ : AMem} : T_Part_isOnce [x0, x1] σ Q ↔ B_Part_isOnce_0 X Q x0 x1 σ := ⟨fun h => h (fun j v σ => B_Part_isOnce X Q j v σ) (fun _ _ _ q => q), fun h _ hX => hX 0 _ _ h⟩
def c_Names_take : List aE := [(0, 1, .aload_n 0, 1, 0, 0, []), (1, 0, .aload_n 1, 1, 0, 0, []), (2, 0, .iload_n 2, 1, 0, 0, []), (3, 0, .invokevirtual 60, 3, 16, 2, [3048]), (6, 0, .astore_n 3, 1, 0, 0, []), (7, 0, .aload_n 3, 1, 0, 0, []), (8, 0, .ifnull 5, 3, 0, 0, []), (11, 0, .aload_n 3, 1, 0, 0, []), (12, 0, .areturn, 1, 0, 0, []), (13, 0, .aload_n 1, 1, 0, 0, []), (14, 0, .iload_n 2, 1, 0, 0, []), (15, 0, .invokevirtual 40, 3, 12, 7, [2235]), (18, 0, .istore 4, 2, 0, 0, []), (20, 0, .aload_n 0, 1, 0, 0, []), (21, 0, .iload 4, 2, 0, 0, []), (23, 0, .aload_n 0, 1, 0, 0, []), (24, 0, .aload_n 1, 1, 0, 0, []), (25, 0, .iload_n 2, 1, 0, 0, []), (26, 0, .iload 4, 2, 0, 0, []), (28, 0, .invokevirtual 44, 3, 14, 2, [3009]), (31, 0, .invokevirtual 64, 3, 7, 2, [2208]), (34, 0, .astore_n 3, 1, 0, 0, []), (35, 0, .iconst 0, 1, 0, 0, []), (36, 0, .istore 5, 2, 0, 0, []), (38, 2, .iload 5, 2, 0, 0, []), (40, 0, .iload 4, 2, 0, 0, []), (42, 0, .if_icmp .ge 24, 3, 0, 0, []), (45, 0, .aload_n 3, 1, 0, 0, []), (46, 0, .getfield 68, 3, 3, 0, [2, 0, 113]), (49, 0, .iload 5, 2, 0, 0, []), (51, 0, .aload_n 1, 1, 0, 0, []), (52, 0, .iload_n 2, 1, 0, 0, []), (53, 0, .iload 5, 2, 0, 0, []), (55, 0, .invokevirtual 31, 3, 13, 7, [3013]), (58, 0, .i2b, 1, 0, 0, []), (59, 0, .bastore, 1, 2, 0, []), (60, 0, .iinc 5 1, 3, 0, 0, []), (63, 0, .goto (-25), 3, 0, 0, []), (66, 0, .aload_n 3, 1, 0, 0, []), (67, 0, .areturn, 1, 0, 0, [])]
def m_Names_take : List aT := [(0, [(0, 2), (1, 2), (2, 0)], []), (38, [(1, 2), (2, 0), (3, 2), (4, 0), (5, 0)], [])]
def B_Names_take_0 (X : Nat → List Int → AMem → Prop) (Q : Int → AMem → Prop) (x1 x2 : Int) (σ : AMem) : Prop :=
  T_Names_find [16, x1, x2] σ (fun r1 σ2 => (if r1 = 0 then
  (if ly_k x1 = 27 then T_Part_letters [x1, x2] σ2 (fun r3 σ4 => T_Names_hash [16, x1, x2, r3] σ4 (fun r5 σ6 => T_Names_fresh [16, r3, r5] σ6 (fun r7 σ8 => X 1 [x1, x2, r7, r3, 0] σ8))) else False)
  else
  Q r1 σ2))
def B_Names_take_1 (X : Nat → List Int → AMem → Prop) (Q : Int → AMem → Prop) (x1 x2 x3 x4 x5 : Int) (σ : AMem) : Prop :=
  (if x5 < x4 then
  (if ly_k x3 = 23 then (if ly_k x1 = 27 then T_Part_letter [x1, x2, x5] σ (fun r1 σ2 => (if ly_k (am_rd GR σ x3 0) = 2 then 0 ≤ x5 ∧ x5 < ly_l (am_rd GR σ x3 0) ∧ am_let (am_upd σ2 (am_rd GR σ x3 0) x5 (w8 (w8 r1))) (fun σ3 => am_r32 (x5 + 1) ∧ X 1 [x1, x2, x3, x4, (x5 + 1)] σ3) else False)) else False) else False)
  else
  Q x3 σ)
def B_Names_take : (Nat → List Int → AMem → Prop) → (Int → AMem → Prop) → Nat → List Int → AMem → Prop := fun X Q j v σ => am_sel [(am_v3 (fun t x1 x2 σ => if t = 16 then B_Names_take_0 X Q x1 x2 σ else False)), (am_v5 (fun x1 x2 x3 x4 x5 σ => B_Names_take_1 X Q x1 x2 x3 x4 x5 σ))] j v σ
def T_Names_take : List Int → AMem → (Int → AMem → Prop) → Prop := am_T B_Names_take
abbrev y_Names_take : MethodName := ⟨"LinkHouse$Names", "take", "(LLinkHouse$Part;I)LLinkHouse$Name;"⟩
def a_Names_take : AC := (21, (y_Names_take, prog_5_method_7_code, 6, (Option.some (Jvm.ClassFile.FieldType.object "LinkHouse$Name"))), [2, 2, 0], 2, false, { frames := 4, cells := 0, slots := 0, locals := 129 }, T_Names_take)
set_option maxRecDepth 100000 in
theorem ms_Names_take : am_MSp a_Names_take := am_ms_v 3047 3 3045 3046 2 rfl (by decide +kernel)
abbrev k_Names_take : List AC := [a_Names_find, a_Part_letters, a_Names_hash, a_Names_fresh, a_Part_letter]
set_option maxRecDepth 100000 in
theorem s_Names_take : (am_chkR { frames := 4, cells := 0, slots := 0, locals := 129 } k_Names_take && am_chkN c_Names_take { frames := 4, cells := 0, slots := 0, locals := 129 } && c_Names_take.all (am_chk "LinkHouse$Names" prog_5_method_7_code 6 (Option.some (Jvm.ClassFile.FieldType.object "LinkHouse$Name")) k_Names_take) && c_Names_take.all (am_chkL m_Names_take) && decide (m_Names_take[0]? = some (0, am_argp 0 [2, 2, 0], [])) && decide (am_argn [2, 2, 0] ≤ 6)) = true := by decide +kernel
set_option maxHeartbeats 150000 in
set_option maxRecDepth 100000 in
theorem h_Names_take : ∀ X Q j v σ, B_Names_take X Q j v σ → am_at GR k_Names_take c_Names_take m_Names_take X Q 45 j v σ := fun X Q => am_sel_all (P := fun j v σ => am_at GR k_Names_take c_Names_take m_Names_take X Q 45 j v σ) (⟨(am_v3_of (fun t x1 x2 σ h => am_tk (fun e => by subst e; exact fun h => h) h)), ⟨(am_v5_of (fun x1 x2 x3 x4 x5 σ h => h)), trivial⟩⟩)
set_option maxRecDepth 100000 in
theorem S_Names_take (l : Launch) (w : AW) : am_S l w GR a_Names_take := am_sound (rt := 2) (cal := k_Names_take) 21 y_Names_take prog_5_method_7_code 6 (Option.some (Jvm.ClassFile.FieldType.object "LinkHouse$Name")) [2, 2, 0] false { frames := 4, cells := 0, slots := 0, locals := 129 } B_Names_take "LinkHouse$Names" c_Names_take m_Names_take 45 ms_Names_take (by decide +kernel) rfl rfl (am_cal (S_Names_find l w) (am_cal (S_Part_letters l w) (am_cal (S_Names_hash l w) (am_cal (S_Names_fresh l w) (am_cal (S_Part_letter l w) (fun _ h => absurd h List.not_mem_nil)))))) s_Names_take h_Names_take
set_option maxRecDepth 100000 in
theorem of_Names_take {Q : Int → AMem → Prop} {x1 x2 : Int} {σ : AMem} (h : ∀ X : Nat → List Int → AMem → Prop, (∀ (x1 x2 : Int) (σ : AMem), B_Names_take_0 X Q x1 x2 σ → X 0 [16, x1, x2] σ) → (∀ (x1 x2 x3 x4 x5 : Int) (σ : AMem), B_Names_take_1 X Q x1 x2 x3 x4 x5 σ → X 1 [x1, x2, x3, x4, x5] σ) → X 0 [16, x1, x2] σ) : T_Names_take [16, x1, x2] σ Q := fun X hX => h X (fun x1 x2 σ h => hX 0 [16, x1, x2] σ h) (fun x1 x2 x3 x4 x5 σ h => hX 1 [x1, x2, x3, x4, x5] σ h)
def c_Part_drop : List aE := [(0, 1, .ldc2_w 110, 3, 4, 0, [3053]), (3, 0, .lstore_n 2, 1, 0, 0, []), (4, 2, .lload_n 2, 1, 0, 0, []), (5, 0, .aload_n 0, 1, 0, 0, []), (6, 0, .getfield 28, 3, 7, 13, [2, 0, 1092]), (9, 0, .iload_n 1, 1, 0, 0, []), (10, 0, .laload, 1, 0, 0, []), (11, 0, .lcmp, 1, 0, 0, []), (12, 0, .ifCond .ge 33, 3, 0, 0, []), (15, 0, .aload_n 0, 1, 0, 0, []), (16, 0, .getfield 71, 3, 7, 27, [2, 0, 1121]), (19, 0, .aload_n 0, 1, 0, 0, []), (20, 0, .aload_n 0, 1, 0, 0, []), (21, 0, .getfield 21, 3, 7, 11, [2, 0, 1087]), (24, 0, .iload_n 1, 1, 0, 0, []), (25, 0, .iaload, 1, 0, 0, []), (26, 0, .i2l, 1, 0, 0, []), (27, 0, .lload_n 2, 1, 0, 0, []), (28, 0, .ladd, 1, 0, 0, []), (29, 0, .iconst 4, 1, 0, 0, []), (30, 0, .invokevirtual 112, 3, 11, 7, [3000]), (33, 0, .l2i, 1, 0, 0, []), (34, 0, .iconst 1, 1, 0, 0, []), (35, 0, .bastore, 1, 3, 0, []), (36, 0, .lload_n 2, 1, 0, 0, []), (37, 0, .ldc2_w 110, 3, 4, 0, [3053]), (40, 0, .ladd, 1, 0, 0, []), (41, 0, .lstore_n 2, 1, 0, 0, []), (42, 0, .goto (-38), 3, 0, 0, []), (45, 0, .return_, 1, 0, 0, [])]
def m_Part_drop : List aT := [(0, [(0, 2), (1, 0)], []), (4, [(0, 2), (1, 0), (2, 1)], [])]
def B_Part_drop_0 (X : Nat → List Int → AMem → Prop) (Q : Int → AMem → Prop) (x0 x1 : Int) (σ : AMem) : Prop :=
  X 1 [x0, x1, 4] σ
def B_Part_drop_1 (X : Nat → List Int → AMem → Prop) (Q : Int → AMem → Prop) (x0 x1 x2 : Int) (σ : AMem) : Prop :=
  (if ly_k x0 = 27 then (if ly_k (am_rd GR σ x0 13) = 4 then 0 ≤ x1 ∧ x1 < ly_l (am_rd GR σ x0 13) ∧ (if x2 < (σ (am_rd GR σ x0 13) x1) then
  (if ly_k x0 = 27 then (if ly_k x0 = 27 then (if ly_k (am_rd GR σ x0 11) = 1 then 0 ≤ x1 ∧ x1 < ly_l (am_rd GR σ x0 11) ∧ (if ly_k x0 = 27 then T_Part_number [x0, (w64 ((σ (am_rd GR σ x0 11) x1) + x2)), 4] σ (fun r1 σ2 => (if ly_k (am_rd GR σ x0 27) = 3 then 0 ≤ (w32 r1) ∧ (w32 r1) < ly_l (am_rd GR σ x0 27) ∧ am_let (am_upd σ2 (am_rd GR σ x0 27) (w32 r1) 1) (fun σ3 => X 1 [x0, x1, (w64 (x2 + 4))] σ3) else False)) else False) else False) else False) else False)
  else
  Q 0 σ) else False) else False)
def B_Part_drop : (Nat → List Int → AMem → Prop) → (Int → AMem → Prop) → Nat → List Int → AMem → Prop := fun X Q j v σ => am_sel [(am_v2 (fun x0 x1 σ => B_Part_drop_0 X Q x0 x1 σ)), (am_v3 (fun x0 x1 x2 σ => B_Part_drop_1 X Q x0 x1 x2 σ))] j v σ
def T_Part_drop : List Int → AMem → (Int → AMem → Prop) → Prop := am_T B_Part_drop
abbrev y_Part_drop : MethodName := ⟨"LinkHouse$Part", "drop", "(I)V"⟩
def a_Part_drop : AC := (22, (y_Part_drop, prog_6_method_22_code, 4, (Option.none : Option Jvm.ClassFile.FieldType)), [2, 0], 3, false, { frames := 1, cells := 0, slots := 0, locals := 34 }, T_Part_drop)
set_option maxRecDepth 100000 in
theorem ms_Part_drop : am_MSp a_Part_drop := am_ms_v 3052 8 3050 3051 7 rfl (by decide +kernel)
abbrev k_Part_drop : List AC := [a_Part_number]
set_option maxRecDepth 100000 in
theorem s_Part_drop : (am_chkR { frames := 1, cells := 0, slots := 0, locals := 34 } k_Part_drop && am_chkN c_Part_drop { frames := 1, cells := 0, slots := 0, locals := 34 } && c_Part_drop.all (am_chk "LinkHouse$Part" prog_6_method_22_code 4 (Option.none : Option Jvm.ClassFile.FieldType) k_Part_drop) && c_Part_drop.all (am_chkL m_Part_drop) && decide (m_Part_drop[0]? = some (0, am_argp 0 [2, 0], [])) && decide (am_argn [2, 0] ≤ 4)) = true := by decide +kernel
set_option maxHeartbeats 150000 in
set_option maxRecDepth 100000 in
theorem h_Part_drop : ∀ X Q j v σ, B_Part_drop X Q j v σ → am_at GR k_Part_drop c_Part_drop m_Part_drop X Q 35 j v σ := fun X Q => am_sel_all (P := fun j v σ => am_at GR k_Part_drop c_Part_drop m_Part_drop X Q 35 j v σ) (⟨(am_v2_of (fun x0 x1 σ h => h)), ⟨(am_v3_of (fun x0 x1 x2 σ h => h)), trivial⟩⟩)
set_option maxRecDepth 100000 in
theorem S_Part_drop (l : Launch) (w : AW) : am_S l w GR a_Part_drop := am_sound (rt := 3) (cal := k_Part_drop) 22 y_Part_drop prog_6_method_22_code 4 (Option.none : Option Jvm.ClassFile.FieldType) [2, 0] false { frames := 1, cells := 0, slots := 0, locals := 34 } B_Part_drop "LinkHouse$Part" c_Part_drop m_Part_drop 35 ms_Part_drop (by decide +kernel) rfl rfl (am_cal (S_Part_number l w) (fun _ h => absurd h List.not_mem_nil)) s_Part_drop h_Part_drop
set_option maxRecDepth 100000 in
theorem of_Part_drop {Q : Int → AMem → Prop} {x0 x1 : Int} {σ : AMem} (h : ∀ X : Nat → List Int → AMem → Prop, (∀ (x0 x1 : Int) (σ : AMem), B_Part_drop_0 X Q x0 x1 σ → X 0 [x0, x1] σ) → (∀ (x0 x1 x2 : Int) (σ : AMem), B_Part_drop_1 X Q x0 x1 x2 σ → X 1 [x0, x1, x2] σ) → X 0 [x0, x1] σ) : T_Part_drop [x0, x1] σ Q := fun X hX => h X (fun x0 x1 σ h => hX 0 [x0, x1] σ h) (fun x0 x1 x2 σ h => hX 1 [x0, x1, x2] σ h)
def c_Part_isLoaded : List aE := [(0, 1, .aload_n 0, 1, 0, 0, []), (1, 0, .getfield 9, 3, 7, 8, [2, 0, 1082]), (4, 0, .iload_n 1, 1, 0, 0, []), (5, 0, .iaload, 1, 0, 0, []), (6, 0, .iconst 1, 1, 0, 0, []), (7, 0, .if_icmp .eq 14, 3, 0, 0, []), (10, 0, .aload_n 0, 1, 0, 0, []), (11, 0, .getfield 9, 3, 7, 8, [2, 0, 1082]), (14, 0, .iload_n 1, 1, 0, 0, []), (15, 0, .iaload, 1, 0, 0, []), (16, 0, .bipush 8, 2, 0, 0, []), (18, 0, .if_icmp .ne 24, 3, 0, 0, []), (21, 2, .aload_n 0, 1, 0, 0, []), (22, 0, .getfield 24, 3, 7, 12, [2, 0, 1090]), (25, 0, .iload_n 1, 1, 0, 0, []), (26, 0, .laload, 1, 0, 0, []), (27, 0, .ldc2_w 102, 3, 2, 0, [3062]), (30, 0, .land, 1, 0, 0, []), (31, 0, .ldc2_w 102, 3, 2, 0, [3062]), (34, 0, .lcmp, 1, 0, 0, []), (35, 0, .ifCond .ne 7, 3, 0, 0, []), (38, 0, .iconst 1, 1, 0, 0, []), (39, 0, .goto 4, 3, 0, 0, []), (42, 0, .iconst 0, 1, 0, 0, []), (43, 0, .ireturn, 1, 1, 0, [])]
def m_Part_isLoaded : List aT := [(0, [(0, 2), (1, 0)], []), (21, [(0, 2), (1, 0)], [])]
def B_Part_isLoaded_0 (X : Nat → List Int → AMem → Prop) (Q : Int → AMem → Prop) (x0 x1 : Int) (σ : AMem) : Prop :=
  (if ly_k x0 = 27 then (if ly_k (am_rd GR σ x0 8) = 1 then 0 ≤ x1 ∧ x1 < ly_l (am_rd GR σ x0 8) ∧ (if (σ (am_rd GR σ x0 8) x1) = 1 then
  X 1 [x0, x1] σ
  else
  (if ly_k x0 = 27 then (if ly_k (am_rd GR σ x0 8) = 1 then 0 ≤ x1 ∧ x1 < ly_l (am_rd GR σ x0 8) ∧ (if (σ (am_rd GR σ x0 8) x1) = 8 then
    X 1 [x0, x1] σ
    else
    Q 0 σ) else False) else False)) else False) else False)
def B_Part_isLoaded_1 (X : Nat → List Int → AMem → Prop) (Q : Int → AMem → Prop) (x0 x1 : Int) (σ : AMem) : Prop :=
  (if ly_k x0 = 27 then (if ly_k (am_rd GR σ x0 12) = 4 then 0 ≤ x1 ∧ x1 < ly_l (am_rd GR σ x0 12) ∧ (if (l_and (σ (am_rd GR σ x0 12) x1) 2) = 2 then
  Q 1 σ
  else
  Q 0 σ) else False) else False)
def B_Part_isLoaded : (Nat → List Int → AMem → Prop) → (Int → AMem → Prop) → Nat → List Int → AMem → Prop := fun X Q j v σ => am_sel [(am_v2 (fun x0 x1 σ => B_Part_isLoaded_0 X Q x0 x1 σ)), (am_v2 (fun x0 x1 σ => B_Part_isLoaded_1 X Q x0 x1 σ))] j v σ
def T_Part_isLoaded : List Int → AMem → (Int → AMem → Prop) → Prop := am_T B_Part_isLoaded
abbrev y_Part_isLoaded : MethodName := ⟨"LinkHouse$Part", "isLoaded", "(I)Z"⟩
def a_Part_isLoaded : AC := (23, (y_Part_isLoaded, prog_6_method_5_code, 2, (Option.some Jvm.ClassFile.FieldType.boolean)), [2, 0], 0, false, { frames := 0, cells := 0, slots := 0, locals := 0 }, T_Part_isLoaded)
set_option maxRecDepth 100000 in
theorem ms_Part_isLoaded : am_MSp a_Part_isLoaded := am_ms_v 3061 8 3059 3060 7 rfl (by decide +kernel)
abbrev k_Part_isLoaded : List AC := []
set_option maxRecDepth 100000 in
theorem s_Part_isLoaded : (am_chkR { frames := 0, cells := 0, slots := 0, locals := 0 } k_Part_isLoaded && am_chkN c_Part_isLoaded { frames := 0, cells := 0, slots := 0, locals := 0 } && c_Part_isLoaded.all (am_chk "LinkHouse$Part" prog_6_method_5_code 2 (Option.some Jvm.ClassFile.FieldType.boolean) k_Part_isLoaded) && c_Part_isLoaded.all (am_chkL m_Part_isLoaded) && decide (m_Part_isLoaded[0]? = some (0, am_argp 0 [2, 0], [])) && decide (am_argn [2, 0] ≤ 2)) = true := by decide +kernel
set_option maxHeartbeats 150000 in
set_option maxRecDepth 100000 in
theorem h_Part_isLoaded : ∀ X Q j v σ, B_Part_isLoaded X Q j v σ → am_at GR k_Part_isLoaded c_Part_isLoaded m_Part_isLoaded X Q 30 j v σ := fun X Q => am_sel_all (P := fun j v σ => am_at GR k_Part_isLoaded c_Part_isLoaded m_Part_isLoaded X Q 30 j v σ) (⟨(am_v2_of (fun x0 x1 σ h => h)), ⟨(am_v2_of (fun x0 x1 σ h => h)), trivial⟩⟩)
set_option maxRecDepth 100000 in
theorem S_Part_isLoaded (l : Launch) (w : AW) : am_S l w GR a_Part_isLoaded := am_sound (rt := 0) (cal := k_Part_isLoaded) 23 y_Part_isLoaded prog_6_method_5_code 2 (Option.some Jvm.ClassFile.FieldType.boolean) [2, 0] false { frames := 0, cells := 0, slots := 0, locals := 0 } B_Part_isLoaded "LinkHouse$Part" c_Part_isLoaded m_Part_isLoaded 30 ms_Part_isLoaded (by decide +kernel) rfl rfl (fun _ h => absurd h List.not_mem_nil) s_Part_isLoaded h_Part_isLoaded
set_option maxRecDepth 100000 in
theorem of_Part_isLoaded {Q : Int → AMem → Prop} {x0 x1 : Int} {σ : AMem} (h : ∀ X : Nat → List Int → AMem → Prop, (∀ (x0 x1 : Int) (σ : AMem), B_Part_isLoaded_0 X Q x0 x1 σ → X 0 [x0, x1] σ) → (∀ (x0 x1 : Int) (σ : AMem), B_Part_isLoaded_1 X Q x0 x1 σ → X 1 [x0, x1] σ) → X 0 [x0, x1] σ) : T_Part_isLoaded [x0, x1] σ Q := fun X hX => h X (fun x0 x1 σ h => hX 0 [x0, x1] σ h) (fun x0 x1 σ h => hX 1 [x0, x1] σ h)
