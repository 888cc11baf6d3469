/-! methods: printed by gen/all.py -/
def c_LinkHouse_defined : List aE := [(0, 1, .iconst 0, 1, 0, 0, []), (1, 0, .istore_n 3, 1, 0, 0, []), (2, 0, .iconst 0, 1, 0, 0, []), (3, 0, .istore 4, 2, 0, 0, []), (5, 2, .iload 4, 2, 0, 0, []), (7, 0, .iload_n 1, 1, 0, 0, []), (8, 0, .if_icmp .ge 67, 3, 0, 0, []), (11, 0, .aload_n 0, 1, 0, 0, []), (12, 0, .getfield 153, 3, 0, 61, [2, 0, 2034]), (15, 0, .iload 4, 2, 0, 0, []), (17, 0, .aaload, 1, 5, 0, []), (18, 0, .astore 5, 2, 0, 0, []), (20, 0, .iconst 1, 1, 0, 0, []), (21, 0, .istore 6, 2, 0, 0, []), (23, 3, .iload 6, 2, 0, 0, []), (25, 0, .aload 5, 2, 0, 0, []), (27, 0, .getfield 247, 3, 7, 4, [0, 0, 1075]), (30, 0, .if_icmp .ge 39, 3, 0, 0, []), (33, 0, .aload 5, 2, 0, 0, []), (35, 0, .iload 6, 2, 0, 0, []), (37, 0, .invokevirtual 286, 3, 10, 7, [2227]), (40, 0, .ifCond .eq 23, 3, 0, 0, []), (43, 0, .iload_n 3, 1, 0, 0, []), (44, 0, .iload_n 2, 1, 0, 0, []), (45, 0, .ifCond .eq 15, 3, 0, 0, []), (48, 0, .aload 5, 2, 0, 0, []), (50, 0, .iload 6, 2, 0, 0, []), (52, 0, .invokevirtual 821, 3, 12, 7, [4205]), (55, 0, .iconst 1, 1, 0, 0, []), (56, 0, .iadd, 1, 0, 0, []), (57, 0, .goto 4, 3, 0, 0, []), (60, 0, .iconst 1, 1, 0, 0, []), (61, 4, .iadd, 1, 0, 0, []), (62, 0, .istore_n 3, 1, 0, 0, []), (63, 5, .iinc 6 1, 3, 0, 0, []), (66, 0, .goto (-43), 3, 0, 0, []), (69, 0, .iinc 4 1, 3, 0, 0, []), (72, 0, .goto (-67), 3, 0, 0, []), (75, 0, .iload_n 3, 1, 0, 0, []), (76, 0, .ireturn, 1, 0, 0, [])]
def m_LinkHouse_defined : List aT := [(0, [(0, 2), (1, 0), (2, 0)], []), (5, [(0, 2), (1, 0), (2, 0), (3, 0), (4, 0)], []), (23, [(0, 2), (1, 0), (2, 0), (3, 0), (4, 0), (5, 2), (6, 0)], []), (61, [(0, 2), (1, 0), (2, 0), (4, 0), (5, 2), (6, 0)], [0, 0]), (63, [(0, 2), (1, 0), (2, 0), (3, 0), (4, 0), (5, 2), (6, 0)], [])]
def B_LinkHouse_defined_0 (X : Nat → List Int → AMem → Prop) (Q : Int → AMem → Prop) (x1 x2 : Int) (σ : AMem) : Prop :=
  X 1 [1, x1, x2, 0, 0] σ
def B_LinkHouse_defined_1 (X : Nat → List Int → AMem → Prop) (Q : Int → AMem → Prop) (x1 x2 x3 x4 : Int) (σ : AMem) : Prop :=
  (if x4 < x1 then
  0 ≤ x4 ∧ x4 < 7 ∧ X 2 [1, x1, x2, x3, x4, (σ 8353 x4), 1] σ
  else
  Q x3 σ)
def B_LinkHouse_defined_2 (X : Nat → List Int → AMem → Prop) (Q : Int → AMem → Prop) (x1 x2 x3 x4 x5 x6 : Int) (σ : AMem) : Prop :=
  (if ly_k x5 = 27 then (if x6 < (am_rd GR σ x5 4) then
  (if ly_k x5 = 27 then T_Part_defines [x5, x6] σ (fun r1 σ2 => (if r1 = 0 then
    X 4 [1, x1, x2, x3, x4, x5, x6] σ2
    else
    (if x2 = 0 then
      X 3 [1, x1, x2, x4, x5, x6, 1, x3] σ2
      else
      (if ly_k x5 = 27 then T_Part_letters [x5, x6] σ2 (fun r3 σ4 => am_r32 (r3 + 1) ∧ X 3 [1, x1, x2, x4, x5, x6, (r3 + 1), x3] σ4) else False)))) else False)
  else
  am_r32 (x4 + 1) ∧ X 1 [1, x1, x2, x3, (x4 + 1)] σ) else False)
def B_LinkHouse_defined_3 (X : Nat → List Int → AMem → Prop) (Q : Int → AMem → Prop) (x1 x2 x4 x5 x6 s0 s1 : Int) (σ : AMem) : Prop :=
  am_r32 (s1 + s0) ∧ X 4 [1, x1, x2, (s1 + s0), x4, x5, x6] σ
def B_LinkHouse_defined_4 (X : Nat → List Int → AMem → Prop) (Q : Int → AMem → Prop) (x1 x2 x3 x4 x5 x6 : Int) (σ : AMem) : Prop :=
  am_r32 (x6 + 1) ∧ X 2 [1, x1, x2, x3, x4, x5, (x6 + 1)] σ
def B_LinkHouse_defined : (Nat → List Int → AMem → Prop) → (Int → AMem → Prop) → Nat → List Int → AMem → Prop := fun X Q j v σ => am_sel [(am_v3 (fun t x1 x2 σ => if t = 1 then B_LinkHouse_defined_0 X Q x1 x2 σ else False)), (am_v5 (fun t x1 x2 x3 x4 σ => if t = 1 then B_LinkHouse_defined_1 X Q x1 x2 x3 x4 σ else False)), (am_v7 (fun t x1 x2 x3 x4 x5 x6 σ => if t = 1 then B_LinkHouse_defined_2 X Q x1 x2 x3 x4 x5 x6 σ else False)), (am_v8 (fun t x1 x2 x4 x5 x6 s0 s1 σ => if t = 1 then B_LinkHouse_defined_3 X Q x1 x2 x4 x5 x6 s0 s1 σ else False)), (am_v7 (fun t x1 x2 x3 x4 x5 x6 σ => if t = 1 then B_LinkHouse_defined_4 X Q x1 x2 x3 x4 x5 x6 σ else False))] j v σ
def T_LinkHouse_defined : List Int → AMem → (Int → AMem → Prop) → Prop := am_T B_LinkHouse_defined
abbrev y_LinkHouse_defined : MethodName := ⟨"LinkHouse", "defined", "(IZ)I"⟩
def a_LinkHouse_defined : AC := (112, (y_LinkHouse_defined, prog_1_method_75_code, 7, (Option.some Jvm.ClassFile.FieldType.int)), [2, 0, 0], 0, false, { frames := 2, cells := 0, slots := 0, locals := 68 }, T_LinkHouse_defined)
set_option maxRecDepth 100000 in
theorem ms_LinkHouse_defined : am_MSp a_LinkHouse_defined := am_ms_v 4204 1 4203 103012 0 rfl (by decide +kernel)
abbrev k_LinkHouse_defined : List AC := [a_Part_defines, a_Part_letters]
set_option maxRecDepth 100000 in
theorem s_LinkHouse_defined : (am_chkR { frames := 2, cells := 0, slots := 0, locals := 68 } k_LinkHouse_defined && am_chkN c_LinkHouse_defined { frames := 2, cells := 0, slots := 0, locals := 68 } && c_LinkHouse_defined.all (am_chk "LinkHouse" prog_1_method_75_code 7 (Option.some Jvm.ClassFile.FieldType.int) k_LinkHouse_defined) && c_LinkHouse_defined.all (am_chkL m_LinkHouse_defined) && decide (m_LinkHouse_defined[0]? = some (0, am_argp 0 [2, 0, 0], [])) && decide (am_argn [2, 0, 0] ≤ 7)) = true := by decide +kernel
set_option maxHeartbeats 150000 in
set_option maxRecDepth 100000 in
theorem h_LinkHouse_defined : ∀ X Q j v σ, B_LinkHouse_defined X Q j v σ → am_at GR k_LinkHouse_defined c_LinkHouse_defined m_LinkHouse_defined X Q 45 j v σ := fun X Q => am_sel_all (P := fun j v σ => am_at GR k_LinkHouse_defined c_LinkHouse_defined m_LinkHouse_defined X Q 45 j v σ) (⟨(am_v3_of (fun t x1 x2 σ h => am_tk (fun e => by subst e; exact fun h => h) h)), ⟨(am_v5_of (fun t x1 x2 x3 x4 σ h => am_tk (fun e => by subst e; exact fun h => h) h)), ⟨(am_v7_of (fun t x1 x2 x3 x4 x5 x6 σ h => am_tk (fun e => by subst e; exact fun h => h) h)), ⟨(am_v8_of (fun t x1 x2 x4 x5 x6 s0 s1 σ h => am_tk (fun e => by subst e; exact fun h => h) h)), ⟨(am_v7_of (fun t x1 x2 x3 x4 x5 x6 σ h => am_tk (fun e => by subst e; exact fun h => h) h)), trivial⟩⟩⟩⟩⟩)
set_option maxRecDepth 100000 in
theorem S_LinkHouse_defined (l : Launch) (w : AW) : am_S l w GR a_LinkHouse_defined := am_sound (rt := 0) (cal := k_LinkHouse_defined) 112 y_LinkHouse_defined prog_1_method_75_code 7 (Option.some Jvm.ClassFile.FieldType.int) [2, 0, 0] false { frames := 2, cells := 0, slots := 0, locals := 68 } B_LinkHouse_defined "LinkHouse" c_LinkHouse_defined m_LinkHouse_defined 45 ms_LinkHouse_defined (by decide +kernel) rfl rfl (am_cal (S_Part_defines l w) (am_cal (S_Part_letters l w) (fun _ h => absurd h List.not_mem_nil))) s_LinkHouse_defined h_LinkHouse_defined
set_option maxRecDepth 100000 in
theorem of_LinkHouse_defined {Q : Int → AMem → Prop} {x1 x2 : Int} {σ : AMem} (h : ∀ X : Nat → List Int → AMem → Prop, (∀ (x1 x2 : Int) (σ : AMem), B_LinkHouse_defined_0 X Q x1 x2 σ → X 0 [1, x1, x2] σ) → (∀ (x1 x2 x3 x4 : Int) (σ : AMem), B_LinkHouse_defined_1 X Q x1 x2 x3 x4 σ → X 1 [1, x1, x2, x3, x4] σ) → (∀ (x1 x2 x3 x4 x5 x6 : Int) (σ : AMem), B_LinkHouse_defined_2 X Q x1 x2 x3 x4 x5 x6 σ → X 2 [1, x1, x2, x3, x4, x5, x6] σ) → (∀ (x1 x2 x4 x5 x6 s0 s1 : Int) (σ : AMem), B_LinkHouse_defined_3 X Q x1 x2 x4 x5 x6 s0 s1 σ → X 3 [1, x1, x2, x4, x5, x6, s0, s1] σ) → (∀ (x1 x2 x3 x4 x5 x6 : Int) (σ : AMem), B_LinkHouse_defined_4 X Q x1 x2 x3 x4 x5 x6 σ → X 4 [1, x1, x2, x3, x4, x5, x6] σ) → X 0 [1, x1, x2] σ) : T_LinkHouse_defined [1, x1, x2] σ Q := fun X hX => h X (fun x1 x2 σ h => hX 0 [1, x1, x2] σ h) (fun x1 x2 x3 x4 σ h => hX 1 [1, x1, x2, x3, x4] σ h) (fun x1 x2 x3 x4 x5 x6 σ h => hX 2 [1, x1, x2, x3, x4, x5, x6] σ h) (fun x1 x2 x4 x5 x6 s0 s1 σ h => hX 3 [1, x1, x2, x4, x5, x6, s0, s1] σ h) (fun x1 x2 x3 x4 x5 x6 σ h => hX 4 [1, x1, x2, x3, x4, x5, x6] σ h)
def c_LinkHouse_even : List aE := [(0, 1, .iload_n 0, 1, 0, 0, []), (1, 0, .iload_n 0, 1, 0, 0, []), (2, 0, .iconst 2, 1, 0, 0, []), (3, 0, .irem, 1, 0, 0, []), (4, 0, .iadd, 1, 0, 0, []), (5, 0, .ireturn, 1, 0, 0, [])]
def m_LinkHouse_even : List aT := [(0, [(0, 0)], [])]
def B_LinkHouse_even_0 (X : Nat → List Int → AMem → Prop) (Q : Int → AMem → Prop) (x0 : Int) (σ : AMem) : Prop :=
  (0 : Int) < 2 ∧ am_r32 (x0 + (x0.tmod 2)) ∧ Q (x0 + (x0.tmod 2)) σ
def B_LinkHouse_even : (Nat → List Int → AMem → Prop) → (Int → AMem → Prop) → Nat → List Int → AMem → Prop := fun X Q j v σ => am_sel [(am_v1 (fun x0 σ => B_LinkHouse_even_0 X Q x0 σ))] j v σ
def T_LinkHouse_even : List Int → AMem → (Int → AMem → Prop) → Prop := am_T B_LinkHouse_even
abbrev y_LinkHouse_even : MethodName := ⟨"LinkHouse", "even", "(I)I"⟩
def a_LinkHouse_even : AC := (113, (y_LinkHouse_even, prog_1_method_74_code, 1, (Option.some Jvm.ClassFile.FieldType.int)), [0], 0, true, { frames := 0, cells := 0, slots := 0, locals := 0 }, T_LinkHouse_even)
set_option maxRecDepth 100000 in
theorem ms_LinkHouse_even : am_MSp a_LinkHouse_even := am_ms_s 4208 1 4207 rfl (by decide +kernel)
abbrev k_LinkHouse_even : List AC := []
set_option maxRecDepth 100000 in
theorem s_LinkHouse_even : (am_chkR { frames := 0, cells := 0, slots := 0, locals := 0 } k_LinkHouse_even && am_chkN c_LinkHouse_even { frames := 0, cells := 0, slots := 0, locals := 0 } && c_LinkHouse_even.all (am_chk "LinkHouse" prog_1_method_74_code 1 (Option.some Jvm.ClassFile.FieldType.int) k_LinkHouse_even) && c_LinkHouse_even.all (am_chkL m_LinkHouse_even) && decide (m_LinkHouse_even[0]? = some (0, am_argp 0 [0], [])) && decide (am_argn [0] ≤ 1)) = true := by decide +kernel
set_option maxHeartbeats 150000 in
set_option maxRecDepth 100000 in
theorem h_LinkHouse_even : ∀ X Q j v σ, B_LinkHouse_even X Q j v σ → am_at GR k_LinkHouse_even c_LinkHouse_even m_LinkHouse_even X Q 20 j v σ := fun X Q => am_sel_all (P := fun j v σ => am_at GR k_LinkHouse_even c_LinkHouse_even m_LinkHouse_even X Q 20 j v σ) (⟨(am_v1_of (fun x0 σ h => h)), trivial⟩)
set_option maxRecDepth 100000 in
theorem S_LinkHouse_even (l : Launch) (w : AW) : am_S l w GR a_LinkHouse_even := am_sound (rt := 0) (cal := k_LinkHouse_even) 113 y_LinkHouse_even prog_1_method_74_code 1 (Option.some Jvm.ClassFile.FieldType.int) [0] true { frames := 0, cells := 0, slots := 0, locals := 0 } B_LinkHouse_even "LinkHouse" c_LinkHouse_even m_LinkHouse_even 20 ms_LinkHouse_even (by decide +kernel) rfl rfl (fun _ h => absurd h List.not_mem_nil) s_LinkHouse_even h_LinkHouse_even
set_option maxRecDepth 100000 in
theorem of_LinkHouse_even {Q : Int → AMem → Prop} {x0 : Int} {σ : AMem} (h : ∀ X : Nat → List Int → AMem → Prop, (∀ (x0 : Int) (σ : AMem), B_LinkHouse_even_0 X Q x0 σ → X 0 [x0] σ) → X 0 [x0] σ) : T_LinkHouse_even [x0] σ Q := fun X hX => h X (fun x0 σ h => hX 0 [x0] σ h)
set_option maxRecDepth 100000 in
theorem iff_LinkHouse_even {Q : Int → AMem → Prop} {X : Nat → List Int → AMem → Prop} {x0 : Int} {σ : AMem} : T_LinkHouse_even [x0] σ Q ↔ B_LinkHouse_even_0 X Q x0 σ := ⟨fun h => h (fun j v σ => B_LinkHouse_even X Q j v σ) (fun _ _ _ q => q), fun h _ hX => hX 0 _ _ h⟩
def c_LinkHouse_decimal : List aE := [(0, 1, .lconst 1, 1, 0, 0, []), (1, 0, .lstore 4, 2, 0, 0, []), (3, 2, .lload_n 2, 1, 0, 0, []), (4, 0, .lload 4, 2, 0, 0, []), (6, 0, .ldiv, 1, 0, 0, []), (7, 0, .ldc2_w 827, 3, 9, 0, [4222]), (10, 0, .lcmp, 1, 0, 0, []), (11, 0, .ifCond .le 14, 3, 0, 0, []), (14, 0, .lload 4, 2, 0, 0, []), (16, 0, .ldc2_w 829, 3, 10, 0, [4223]), (19, 0, .lmul, 1, 0, 0, []), (20, 0, .lstore 4, 2, 0, 0, []), (22, 0, .goto (-19), 3, 0, 0, []), (25, 3, .lload 4, 2, 0, 0, []), (27, 0, .lconst 0, 1, 0, 0, []), (28, 0, .lcmp, 1, 0, 0, []), (29, 0, .ifCond .le 41, 3, 0, 0, []), (32, 0, .aload_n 1, 1, 0, 0, []), (33, 0, .aload_n 0, 1, 0, 0, []), (34, 0, .dup, 1, 0, 0, []), (35, 0, .getfield 731, 3, 0, 60, [0, 0, 2033]), (38, 0, .dup_x1, 1, 0, 0, []), (39, 0, .iconst 1, 1, 0, 0, []), (40, 0, .iadd, 1, 0, 0, []), (41, 0, .putfield 731, 3, 0, 60, [0, 0, 2033]), (44, 0, .ldc2_w 630, 3, 48, 0, [4098]), (47, 0, .lload_n 2, 1, 0, 0, []), (48, 0, .lload 4, 2, 0, 0, []), (50, 0, .ldiv, 1, 0, 0, []), (51, 0, .ldc2_w 829, 3, 10, 0, [4223]), (54, 0, .lrem, 1, 0, 0, []), (55, 0, .ladd, 1, 0, 0, []), (56, 0, .l2i, 1, 0, 0, []), (57, 0, .i2b, 1, 0, 0, []), (58, 0, .bastore, 1, 2, 0, []), (59, 0, .lload 4, 2, 0, 0, []), (61, 0, .ldc2_w 829, 3, 10, 0, [4223]), (64, 0, .ldiv, 1, 0, 0, []), (65, 0, .lstore 4, 2, 0, 0, []), (67, 0, .goto (-42), 3, 0, 0, []), (70, 0, .return_, 1, 0, 0, [])]
def m_LinkHouse_decimal : List aT := [(0, [(0, 2), (1, 2), (2, 1)], []), (3, [(0, 2), (1, 2), (2, 1), (4, 1)], []), (25, [(0, 2), (1, 2), (2, 1), (4, 1)], [])]
def B_LinkHouse_decimal_0 (X : Nat → List Int → AMem → Prop) (Q : Int → AMem → Prop) (x1 x2 : Int) (σ : AMem) : Prop :=
  X 1 [1, x1, x2, 1] σ
def B_LinkHouse_decimal_1 (X : Nat → List Int → AMem → Prop) (Q : Int → AMem → Prop) (x1 x2 x4 : Int) (σ : AMem) : Prop :=
  0 < x4 ∧ (if 9 < (x2.tdiv x4) then
  X 1 [1, x1, x2, (w64 (x4 * 10))] σ
  else
  X 2 [1, x1, x2, x4] σ)
def B_LinkHouse_decimal_2 (X : Nat → List Int → AMem → Prop) (Q : Int → AMem → Prop) (x1 x2 x4 : Int) (σ : AMem) : Prop :=
  (if 0 < x4 then
  am_r32 ((σ 1 60) + 1) ∧ am_let (am_upd σ 1 60 ((σ 1 60) + 1)) (fun σ1 => 0 < x4 ∧ (0 : Int) < 10 ∧ (if ly_k x1 = 2 then 0 ≤ (σ 1 60) ∧ (σ 1 60) < ly_l x1 ∧ am_let (am_upd σ1 x1 (σ 1 60) (w8 (w8 (w32 (w64 (48 + ((x2.tdiv x4).tmod 10))))))) (fun σ2 => (0 : Int) < 10 ∧ X 2 [1, x1, x2, (x4.tdiv 10)] σ2) else False))
  else
  Q 0 σ)
def B_LinkHouse_decimal : (Nat → List Int → AMem → Prop) → (Int → AMem → Prop) → Nat → List Int → AMem → Prop := fun X Q j v σ => am_sel [(am_v3 (fun t x1 x2 σ => if t = 1 then B_LinkHouse_decimal_0 X Q x1 x2 σ else False)), (am_v4 (fun t x1 x2 x4 σ => if t = 1 then B_LinkHouse_decimal_1 X Q x1 x2 x4 σ else False)), (am_v4 (fun t x1 x2 x4 σ => if t = 1 then B_LinkHouse_decimal_2 X Q x1 x2 x4 σ else False))] j v σ
def T_LinkHouse_decimal : List Int → AMem → (Int → AMem → Prop) → Prop := am_T B_LinkHouse_decimal
abbrev y_LinkHouse_decimal : MethodName := ⟨"LinkHouse", "decimal", "([BJ)V"⟩
def a_LinkHouse_decimal : AC := (114, (y_LinkHouse_decimal, prog_1_method_78_code, 6, (Option.none : Option Jvm.ClassFile.FieldType)), [2, 2, 1], 3, false, { frames := 0, cells := 0, slots := 0, locals := 0 }, T_LinkHouse_decimal)
set_option maxRecDepth 100000 in
theorem ms_LinkHouse_decimal : am_MSp a_LinkHouse_decimal := am_ms_v 4221 1 4220 103015 0 rfl (by decide +kernel)
abbrev k_LinkHouse_decimal : List AC := []
set_option maxRecDepth 100000 in
theorem s_LinkHouse_decimal : (am_chkR { frames := 0, cells := 0, slots := 0, locals := 0 } k_LinkHouse_decimal && am_chkN c_LinkHouse_decimal { frames := 0, cells := 0, slots := 0, locals := 0 } && c_LinkHouse_decimal.all (am_chk "LinkHouse" prog_1_method_78_code 6 (Option.none : Option Jvm.ClassFile.FieldType) k_LinkHouse_decimal) && c_LinkHouse_decimal.all (am_chkL m_LinkHouse_decimal) && decide (m_LinkHouse_decimal[0]? = some (0, am_argp 0 [2, 2, 1], [])) && decide (am_argn [2, 2, 1] ≤ 6)) = true := by decide +kernel
set_option maxHeartbeats 150000 in
set_option maxRecDepth 100000 in
theorem h_LinkHouse_decimal : ∀ X Q j v σ, B_LinkHouse_decimal X Q j v σ → am_at GR k_LinkHouse_decimal c_LinkHouse_decimal m_LinkHouse_decimal X Q 46 j v σ := fun X Q => am_sel_all (P := fun j v σ => am_at GR k_LinkHouse_decimal c_LinkHouse_decimal m_LinkHouse_decimal X Q 46 j v σ) (⟨(am_v3_of (fun t x1 x2 σ h => am_tk (fun e => by subst e; exact fun h => h) h)), ⟨(am_v4_of (fun t x1 x2 x4 σ h => am_tk (fun e => by subst e; exact fun h => h) h)), ⟨(am_v4_of (fun t x1 x2 x4 σ h => am_tk (fun e => by subst e; exact fun h => h) h)), trivial⟩⟩⟩)
set_option maxRecDepth 100000 in
theorem S_LinkHouse_decimal (l : Launch) (w : AW) : am_S l w GR a_LinkHouse_decimal := am_sound (rt := 3) (cal := k_LinkHouse_decimal) 114 y_LinkHouse_decimal prog_1_method_78_code 6 (Option.none : Option Jvm.ClassFile.FieldType) [2, 2, 1] false { frames := 0, cells := 0, slots := 0, locals := 0 } B_LinkHouse_decimal "LinkHouse" c_LinkHouse_decimal m_LinkHouse_decimal 46 ms_LinkHouse_decimal (by decide +kernel) rfl rfl (fun _ h => absurd h List.not_mem_nil) s_LinkHouse_decimal h_LinkHouse_decimal
set_option maxRecDepth 100000 in
theorem of_LinkHouse_decimal {Q : Int → AMem → Prop} {x1 x2 : Int} {σ : AMem} (h : ∀ X : Nat → List Int → AMem → Prop, (∀ (x1 x2 : Int) (σ : AMem), B_LinkHouse_decimal_0 X Q x1 x2 σ → X 0 [1, x1, x2] σ) → (∀ (x1 x2 x4 : Int) (σ : AMem), B_LinkHouse_decimal_1 X Q x1 x2 x4 σ → X 1 [1, x1, x2, x4] σ) → (∀ (x1 x2 x4 : Int) (σ : AMem), B_LinkHouse_decimal_2 X Q x1 x2 x4 σ → X 2 [1, x1, x2, x4] σ) → X 0 [1, x1, x2] σ) : T_LinkHouse_decimal [1, x1, x2] σ Q := fun X hX => h X (fun x1 x2 σ h => hX 0 [1, x1, x2] σ h) (fun x1 x2 x4 σ h => hX 1 [1, x1, x2, x4] σ h) (fun x1 x2 x4 σ h => hX 2 [1, x1, x2, x4] σ h)
def c_LinkHouse_layAhead : List aE := [(0, 1, .iconst 0, 1, 0, 0, []), (1, 0, .istore 4, 2, 0, 0, []), (3, 2, .iload 4, 2, 0, 0, []), (5, 0, .bipush 58, 2, 0, 0, []), (7, 0, .if_icmp .ge 20, 3, 0, 0, []), (10, 0, .aload_n 0, 1, 0, 0, []), (11, 0, .getfield 132, 3, 0, 51, [2, 0, 2024]), (14, 0, .iload_n 1, 1, 0, 0, []), (15, 0, .iload 4, 2, 0, 0, []), (17, 0, .iadd, 1, 0, 0, []), (18, 0, .bipush 32, 2, 0, 0, []), (20, 0, .bastore, 1, 2, 0, []), (21, 0, .iinc 4 1, 3, 0, 0, []), (24, 0, .goto (-21), 3, 0, 0, []), (27, 0, .aload_n 0, 1, 0, 0, []), (28, 0, .getfield 132, 3, 0, 51, [2, 0, 2024]), (31, 0, .iload_n 1, 1, 0, 0, []), (32, 0, .iload_n 2, 1, 0, 0, []), (33, 0, .ifCond .ge 8, 3, 0, 0, []), (36, 0, .bipush 47, 2, 0, 0, []), (38, 0, .goto 5, 3, 0, 0, []), (41, 0, .bipush 111, 2, 0, 0, []), (43, 3, .i2b, 1, 0, 0, []), (44, 0, .bastore, 1, 2, 0, []), (45, 0, .iload_n 2, 1, 0, 0, []), (46, 0, .ifCond .lt 26, 3, 0, 0, []), (49, 0, .aload_n 0, 1, 0, 0, []), (50, 0, .getfield 132, 3, 0, 51, [2, 0, 2024]), (53, 0, .iload_n 1, 1, 0, 0, []), (54, 0, .iconst 1, 1, 0, 0, []), (55, 0, .iadd, 1, 0, 0, []), (56, 0, .bipush 48, 2, 0, 0, []), (58, 0, .iload_n 2, 1, 0, 0, []), (59, 0, .iadd, 1, 0, 0, []), (60, 0, .i2b, 1, 0, 0, []), (61, 0, .bastore, 1, 2, 0, []), (62, 0, .aload_n 0, 1, 0, 0, []), (63, 0, .getfield 132, 3, 0, 51, [2, 0, 2024]), (66, 0, .iload_n 1, 1, 0, 0, []), (67, 0, .iconst 2, 1, 0, 0, []), (68, 0, .iadd, 1, 0, 0, []), (69, 0, .bipush 47, 2, 0, 0, []), (71, 0, .bastore, 1, 2, 0, []), (72, 4, .aload_n 0, 1, 0, 0, []), (73, 0, .iload_n 1, 1, 0, 0, []), (74, 0, .bipush 48, 2, 0, 0, []), (76, 0, .iadd, 1, 0, 0, []), (77, 0, .putfield 731, 3, 0, 60, [0, 0, 2033]), (80, 0, .aload_n 0, 1, 0, 0, []), (81, 0, .aload_n 0, 1, 0, 0, []), (82, 0, .getfield 132, 3, 0, 51, [2, 0, 2024]), (85, 0, .iload_n 3, 1, 0, 0, []), (86, 0, .i2l, 1, 0, 0, []), (87, 0, .invokevirtual 823, 3, 114, 0, [4218]), (90, 0, .aload_n 0, 1, 0, 0, []), (91, 0, .getfield 132, 3, 0, 51, [2, 0, 2024]), (94, 0, .iload_n 1, 1, 0, 0, []), (95, 0, .bipush 58, 2, 0, 0, []), (97, 0, .iadd, 1, 0, 0, []), (98, 0, .bipush 96, 2, 0, 0, []), (100, 0, .bastore, 1, 2, 0, []), (101, 0, .aload_n 0, 1, 0, 0, []), (102, 0, .getfield 132, 3, 0, 51, [2, 0, 2024]), (105, 0, .iload_n 1, 1, 0, 0, []), (106, 0, .bipush 59, 2, 0, 0, []), (108, 0, .iadd, 1, 0, 0, []), (109, 0, .bipush 10, 2, 0, 0, []), (111, 0, .bastore, 1, 2, 0, []), (112, 0, .return_, 1, 0, 0, [])]
def m_LinkHouse_layAhead : List aT := [(0, [(0, 2), (1, 0), (2, 0), (3, 0)], []), (3, [(0, 2), (1, 0), (2, 0), (3, 0), (4, 0)], []), (43, [(0, 2), (1, 0), (2, 0), (3, 0)], [0, 0, 2]), (72, [(0, 2), (1, 0), (3, 0)], [])]
def B_LinkHouse_layAhead_0 (X : Nat → List Int → AMem → Prop) (Q : Int → AMem → Prop) (x1 x2 x3 : Int) (σ : AMem) : Prop :=
  X 1 [1, x1, x2, x3, 0] σ
def B_LinkHouse_layAhead_1 (X : Nat → List Int → AMem → Prop) (Q : Int → AMem → Prop) (x1 x2 x3 x4 : Int) (σ : AMem) : Prop :=
  (if x4 < 58 then
  am_r32 (x1 + x4) ∧ 0 ≤ (x1 + x4) ∧ (x1 + x4) < 8256 ∧ am_let (am_upd σ 8347 (x1 + x4) (w8 32)) (fun σ1 => am_r32 (x4 + 1) ∧ X 1 [1, x1, x2, x3, (x4 + 1)] σ1)
  else
  (if x2 < 0 then
    X 2 [1, x1, x2, x3, 47, x1, 8347] σ
    else
    X 2 [1, x1, x2, x3, 111, x1, 8347] σ))
def B_LinkHouse_layAhead_2 (X : Nat → List Int → AMem → Prop) (Q : Int → AMem → Prop) (x1 x2 x3 s0 s1 s2 : Int) (σ : AMem) : Prop :=
  (if ly_k s2 = 2 then 0 ≤ s1 ∧ s1 < ly_l s2 ∧ am_let (am_upd σ s2 s1 (w8 (w8 s0))) (fun σ1 => (if x2 < 0 then
  X 3 [1, x1, x3] σ1
  else
  am_r32 (x1 + 1) ∧ am_r32 (48 + x2) ∧ 0 ≤ (x1 + 1) ∧ (x1 + 1) < 8256 ∧ am_let (am_upd σ1 8347 (x1 + 1) (w8 (w8 (48 + x2)))) (fun σ2 => am_r32 (x1 + 2) ∧ 0 ≤ (x1 + 2) ∧ (x1 + 2) < 8256 ∧ am_let (am_upd σ2 8347 (x1 + 2) (w8 47)) (fun σ3 => X 3 [1, x1, x3] σ3)))) else False)
def B_LinkHouse_layAhead_3 (X : Nat → List Int → AMem → Prop) (Q : Int → AMem → Prop) (x1 x3 : Int) (σ : AMem) : Prop :=
  am_r32 (x1 + 48) ∧ am_let (am_upd σ 1 60 (x1 + 48)) (fun σ1 => T_LinkHouse_decimal [1, 8347, x3] σ1 (fun r2 σ3 => am_r32 (x1 + 58) ∧ 0 ≤ (x1 + 58) ∧ (x1 + 58) < 8256 ∧ am_let (am_upd σ3 8347 (x1 + 58) (w8 96)) (fun σ4 => am_r32 (x1 + 59) ∧ 0 ≤ (x1 + 59) ∧ (x1 + 59) < 8256 ∧ am_let (am_upd σ4 8347 (x1 + 59) (w8 10)) (fun σ5 => Q 0 σ5))))
def B_LinkHouse_layAhead : (Nat → List Int → AMem → Prop) → (Int → AMem → Prop) → Nat → List Int → AMem → Prop := fun X Q j v σ => am_sel [(am_v4 (fun t x1 x2 x3 σ => if t = 1 then B_LinkHouse_layAhead_0 X Q x1 x2 x3 σ else False)), (am_v5 (fun t x1 x2 x3 x4 σ => if t = 1 then B_LinkHouse_layAhead_1 X Q x1 x2 x3 x4 σ else False)), (am_v7 (fun t x1 x2 x3 s0 s1 s2 σ => if t = 1 then B_LinkHouse_layAhead_2 X Q x1 x2 x3 s0 s1 s2 σ else False)), (am_v3 (fun t x1 x3 σ => if t = 1 then B_LinkHouse_layAhead_3 X Q x1 x3 σ else False))] j v σ
def T_LinkHouse_layAhead : List Int → AMem → (Int → AMem → Prop) → Prop := am_T B_LinkHouse_layAhead
abbrev y_LinkHouse_layAhead : MethodName := ⟨"LinkHouse", "layAhead", "(III)V"⟩
def a_LinkHouse_layAhead : AC := (115, (y_LinkHouse_layAhead, prog_1_method_77_code, 5, (Option.none : Option Jvm.ClassFile.FieldType)), [2, 0, 0, 0], 3, false, { frames := 1, cells := 0, slots := 0, locals := 33 }, T_LinkHouse_layAhead)
set_option maxRecDepth 100000 in
theorem ms_LinkHouse_layAhead : am_MSp a_LinkHouse_layAhead := am_ms_v 4217 1 4216 103014 0 rfl (by decide +kernel)
abbrev k_LinkHouse_layAhead : List AC := [a_LinkHouse_decimal]
set_option maxRecDepth 100000 in
theorem s_LinkHouse_layAhead : (am_chkR { frames := 1, cells := 0, slots := 0, locals := 33 } k_LinkHouse_layAhead && am_chkN c_LinkHouse_layAhead { frames := 1, cells := 0, slots := 0, locals := 33 } && c_LinkHouse_layAhead.all (am_chk "LinkHouse" prog_1_method_77_code 5 (Option.none : Option Jvm.ClassFile.FieldType) k_LinkHouse_layAhead) && c_LinkHouse_layAhead.all (am_chkL m_LinkHouse_layAhead) && decide (m_LinkHouse_layAhead[0]? = some (0, am_argp 0 [2, 0, 0, 0], [])) && decide (am_argn [2, 0, 0, 0] ≤ 5)) = true := by decide +kernel
set_option maxHeartbeats 150000 in
set_option maxRecDepth 100000 in
theorem h_LinkHouse_layAhead : ∀ X Q j v σ, B_LinkHouse_layAhead X Q j v σ → am_at GR k_LinkHouse_layAhead c_LinkHouse_layAhead m_LinkHouse_layAhead X Q 74 j v σ := fun X Q => am_sel_all (P := fun j v σ => am_at GR k_LinkHouse_layAhead c_LinkHouse_layAhead m_LinkHouse_layAhead X Q 74 j v σ) (⟨(am_v4_of (fun t x1 x2 x3 σ h => am_tk (fun e => by subst e; exact fun h => h) h)), ⟨(am_v5_of (fun t x1 x2 x3 x4 σ h => am_tk (fun e => by subst e; exact fun h => h) h)), ⟨(am_v7_of (fun t x1 x2 x3 s0 s1 s2 σ h => am_tk (fun e => by subst e; exact fun h => h) h)), ⟨(am_v3_of (fun t x1 x3 σ h => am_tk (fun e => by subst e; exact fun h => h) h)), trivial⟩⟩⟩⟩)
set_option maxRecDepth 100000 in
theorem S_LinkHouse_layAhead (l : Launch) (w : AW) : am_S l w GR a_LinkHouse_layAhead := am_sound (rt := 3) (cal := k_LinkHouse_layAhead) 115 y_LinkHouse_layAhead prog_1_method_77_code 5 (Option.none : Option Jvm.ClassFile.FieldType) [2, 0, 0, 0] false { frames := 1, cells := 0, slots := 0, locals := 33 } B_LinkHouse_layAhead "LinkHouse" c_LinkHouse_layAhead m_LinkHouse_layAhead 74 ms_LinkHouse_layAhead (by decide +kernel) rfl rfl (am_cal (S_LinkHouse_decimal l w) (fun _ h => absurd h List.not_mem_nil)) s_LinkHouse_layAhead h_LinkHouse_layAhead
set_option maxRecDepth 100000 in
theorem of_LinkHouse_layAhead {Q : Int → AMem → Prop} {x1 x2 x3 : Int} {σ : AMem} (h : ∀ X : Nat → List Int → AMem → Prop, (∀ (x1 x2 x3 : Int) (σ : AMem), B_LinkHouse_layAhead_0 X Q x1 x2 x3 σ → X 0 [1, x1, x2, x3] σ) → (∀ (x1 x2 x3 x4 : Int) (σ : AMem), B_LinkHouse_layAhead_1 X Q x1 x2 x3 x4 σ → X 1 [1, x1, x2, x3, x4] σ) → (∀ (x1 x2 x3 s0 s1 s2 : Int) (σ : AMem), B_LinkHouse_layAhead_2 X Q x1 x2 x3 s0 s1 s2 σ → X 2 [1, x1, x2, x3, s0, s1, s2] σ) → (∀ (x1 x3 : Int) (σ : AMem), B_LinkHouse_layAhead_3 X Q x1 x3 σ → X 3 [1, x1, x3] σ) → X 0 [1, x1, x2, x3] σ) : T_LinkHouse_layAhead [1, x1, x2, x3] σ Q := fun X hX => h X (fun x1 x2 x3 σ h => hX 0 [1, x1, x2, x3] σ h) (fun x1 x2 x3 x4 σ h => hX 1 [1, x1, x2, x3, x4] σ h) (fun x1 x2 x3 s0 s1 s2 σ h => hX 2 [1, x1, x2, x3, s0, s1, s2] σ h) (fun x1 x3 σ h => hX 3 [1, x1, x3] σ h)
def c_LinkHouse_lowest : List aE := [(0, 1, .iconst 0, 1, 0, 0, []), (1, 0, .istore 4, 2, 0, 0, []), (3, 2, .iload 4, 2, 0, 0, []), (5, 0, .iload_n 2, 1, 0, 0, []), (6, 0, .if_icmp .ge 30, 3, 0, 0, []), (9, 0, .aload_n 0, 1, 0, 0, []), (10, 0, .getfield 132, 3, 0, 51, [2, 0, 2024]), (13, 0, .iload_n 1, 1, 0, 0, []), (14, 0, .iload 4, 2, 0, 0, []), (16, 0, .iadd, 1, 0, 0, []), (17, 0, .iload_n 3, 1, 0, 0, []), (18, 0, .bipush 8, 2, 0, 0, []), (20, 0, .iload_n 2, 1, 0, 0, []), (21, 0, .iconst 1, 1, 0, 0, []), (22, 0, .isub, 1, 0, 0, []), (23, 0, .iload 4, 2, 0, 0, []), (25, 0, .isub, 1, 0, 0, []), (26, 0, .imul, 1, 0, 0, []), (27, 0, .ishr, 1, 0, 0, []), (28, 0, .i2b, 1, 0, 0, []), (29, 0, .bastore, 1, 2, 0, []), (30, 0, .iinc 4 1, 3, 0, 0, []), (33, 0, .goto (-30), 3, 0, 0, []), (36, 0, .return_, 1, 0, 0, [])]
def m_LinkHouse_lowest : List aT := [(0, [(0, 2), (1, 0), (2, 0), (3, 0)], []), (3, [(0, 2), (1, 0), (2, 0), (3, 0), (4, 0)], [])]
def B_LinkHouse_lowest_0 (X : Nat → List Int → AMem → Prop) (Q : Int → AMem → Prop) (x1 x2 x3 : Int) (σ : AMem) : Prop :=
  X 1 [1, x1, x2, x3, 0] σ
def B_LinkHouse_lowest_1 (X : Nat → List Int → AMem → Prop) (Q : Int → AMem → Prop) (x1 x2 x3 x4 : Int) (σ : AMem) : Prop :=
  (if x4 < x2 then
  am_r32 (x1 + x4) ∧ am_r32 (x2 - 1) ∧ am_r32 ((x2 - 1) - x4) ∧ am_r32 (8 * ((x2 - 1) - x4)) ∧ 0 ≤ (x1 + x4) ∧ (x1 + x4) < 8256 ∧ am_let (am_upd σ 8347 (x1 + x4) (w8 (w8 (i_shr x3 (8 * ((x2 - 1) - x4)))))) (fun σ1 => am_r32 (x4 + 1) ∧ X 1 [1, x1, x2, x3, (x4 + 1)] σ1)
  else
  Q 0 σ)
def B_LinkHouse_lowest : (Nat → List Int → AMem → Prop) → (Int → AMem → Prop) → Nat → List Int → AMem → Prop := fun X Q j v σ => am_sel [(am_v4 (fun t x1 x2 x3 σ => if t = 1 then B_LinkHouse_lowest_0 X Q x1 x2 x3 σ else False)), (am_v5 (fun t x1 x2 x3 x4 σ => if t = 1 then B_LinkHouse_lowest_1 X Q x1 x2 x3 x4 σ else False))] j v σ
def T_LinkHouse_lowest : List Int → AMem → (Int → AMem → Prop) → Prop := am_T B_LinkHouse_lowest
abbrev y_LinkHouse_lowest : MethodName := ⟨"LinkHouse", "lowest", "(III)V"⟩
def a_LinkHouse_lowest : AC := (116, (y_LinkHouse_lowest, prog_1_method_76_code, 5, (Option.none : Option Jvm.ClassFile.FieldType)), [2, 0, 0, 0], 3, false, { frames := 0, cells := 0, slots := 0, locals := 0 }, T_LinkHouse_lowest)
set_option maxRecDepth 100000 in
theorem ms_LinkHouse_lowest : am_MSp a_LinkHouse_lowest := am_ms_v 4227 1 4226 104000 0 rfl (by decide +kernel)
abbrev k_LinkHouse_lowest : List AC := []
set_option maxRecDepth 100000 in
theorem s_LinkHouse_lowest : (am_chkR { frames := 0, cells := 0, slots := 0, locals := 0 } k_LinkHouse_lowest && am_chkN c_LinkHouse_lowest { frames := 0, cells := 0, slots := 0, locals := 0 } && c_LinkHouse_lowest.all (am_chk "LinkHouse" prog_1_method_76_code 5 (Option.none : Option Jvm.ClassFile.FieldType) k_LinkHouse_lowest) && c_LinkHouse_lowest.all (am_chkL m_LinkHouse_lowest) && decide (m_LinkHouse_lowest[0]? = some (0, am_argp 0 [2, 0, 0, 0], [])) && decide (am_argn [2, 0, 0, 0] ≤ 5)) = true := by decide +kernel
set_option maxHeartbeats 150000 in
set_option maxRecDepth 100000 in
theorem h_LinkHouse_lowest : ∀ X Q j v σ, B_LinkHouse_lowest X Q j v σ → am_at GR k_LinkHouse_lowest c_LinkHouse_lowest m_LinkHouse_lowest X Q 29 j v σ := fun X Q => am_sel_all (P := fun j v σ => am_at GR k_LinkHouse_lowest c_LinkHouse_lowest m_LinkHouse_lowest X Q 29 j v σ) (⟨(am_v4_of (fun t x1 x2 x3 σ h => am_tk (fun e => by subst e; exact fun h => h) h)), ⟨(am_v5_of (fun t x1 x2 x3 x4 σ h => am_tk (fun e => by subst e; exact fun h => h) h)), trivial⟩⟩)
set_option maxRecDepth 100000 in
theorem S_LinkHouse_lowest (l : Launch) (w : AW) : am_S l w GR a_LinkHouse_lowest := am_sound (rt := 3) (cal := k_LinkHouse_lowest) 116 y_LinkHouse_lowest prog_1_method_76_code 5 (Option.none : Option Jvm.ClassFile.FieldType) [2, 0, 0, 0] false { frames := 0, cells := 0, slots := 0, locals := 0 } B_LinkHouse_lowest "LinkHouse" c_LinkHouse_lowest m_LinkHouse_lowest 29 ms_LinkHouse_lowest (by decide +kernel) rfl rfl (fun _ h => absurd h List.not_mem_nil) s_LinkHouse_lowest h_LinkHouse_lowest
set_option maxRecDepth 100000 in
theorem of_LinkHouse_lowest {Q : Int → AMem → Prop} {x1 x2 x3 : Int} {σ : AMem} (h : ∀ X : Nat → List Int → AMem → Prop, (∀ (x1 x2 x3 : Int) (σ : AMem), B_LinkHouse_lowest_0 X Q x1 x2 x3 σ → X 0 [1, x1, x2, x3] σ) → (∀ (x1 x2 x3 x4 : Int) (σ : AMem), B_LinkHouse_lowest_1 X Q x1 x2 x3 x4 σ → X 1 [1, x1, x2, x3, x4] σ) → X 0 [1, x1, x2, x3] σ) : T_LinkHouse_lowest [1, x1, x2, x3] σ Q := fun X hX => h X (fun x1 x2 x3 σ h => hX 0 [1, x1, x2, x3] σ h) (fun x1 x2 x3 x4 σ h => hX 1 [1, x1, x2, x3, x4] σ h)
def c_LinkHouse_layIndex : List aE := [(0, 1, .aload_n 0, 1, 0, 0, []), (1, 0, .lconst 0, 1, 0, 0, []), (2, 0, .bipush 8, 2, 0, 0, []), (4, 0, .ldc2_w 851, 3, 738142165265366049, 0, [4213]), (7, 0, .invokevirtual 764, 3, 98, 0, [4147]), (10, 0, .aload_n 0, 1, 0, 0, []), (11, 0, .bipush 8, 2, 0, 0, []), (13, 0, .iconst (-1), 1, 0, 0, []), (14, 0, .iload_n 3, 1, 0, 0, []), (15, 0, .invokevirtual 845, 3, 115, 0, [4214]), (18, 0, .bipush 68, 2, 0, 0, []), (20, 0, .istore 4, 2, 0, 0, []), (22, 0, .iload 4, 2, 0, 0, []), (24, 0, .iconst 4, 1, 0, 0, []), (25, 0, .iadd, 1, 0, 0, []), (26, 0, .iconst 4, 1, 0, 0, []), (27, 0, .iload_n 2, 1, 0, 0, []), (28, 0, .imul, 1, 0, 0, []), (29, 0, .iadd, 1, 0, 0, []), (30, 0, .istore 5, 2, 0, 0, []), (32, 0, .aload_n 0, 1, 0, 0, []), (33, 0, .iload 4, 2, 0, 0, []), (35, 0, .iconst 4, 1, 0, 0, []), (36, 0, .iload_n 2, 1, 0, 0, []), (37, 0, .invokevirtual 853, 3, 116, 0, [4224]), (40, 0, .iconst 0, 1, 0, 0, []), (41, 0, .istore 6, 2, 0, 0, []), (43, 2, .iload 6, 2, 0, 0, []), (45, 0, .iload_n 1, 1, 0, 0, []), (46, 0, .if_icmp .ge 123, 3, 0, 0, []), (49, 0, .aload_n 0, 1, 0, 0, []), (50, 0, .getfield 153, 3, 0, 61, [2, 0, 2034]), (53, 0, .iload 6, 2, 0, 0, []), (55, 0, .aaload, 1, 5, 0, []), (56, 0, .astore 7, 2, 0, 0, []), (58, 0, .iconst 1, 1, 0, 0, []), (59, 0, .istore 8, 2, 0, 0, []), (61, 3, .iload 8, 2, 0, 0, []), (63, 0, .aload 7, 2, 0, 0, []), (65, 0, .getfield 247, 3, 7, 4, [0, 0, 1075]), (68, 0, .if_icmp .ge 95, 3, 0, 0, []), (71, 0, .aload 7, 2, 0, 0, []), (73, 0, .iload 8, 2, 0, 0, []), (75, 0, .invokevirtual 286, 3, 10, 7, [2227]), (78, 0, .ifCond .ne 6, 3, 0, 0, []), (81, 0, .goto 76, 3, 0, 0, []), (84, 0, .iinc 4 4, 3, 0, 0, []), (87, 0, .aload_n 0, 1, 0, 0, []), (88, 0, .iload 4, 2, 0, 0, []), (90, 0, .iconst 4, 1, 0, 0, []), (91, 0, .aload_n 0, 1, 0, 0, []), (92, 0, .getfield 156, 3, 0, 62, [2, 0, 2035]), (95, 0, .iload 6, 2, 0, 0, []), (97, 0, .iaload, 1, 0, 0, []), (98, 0, .invokevirtual 853, 3, 116, 0, [4224]), (101, 0, .aload 7, 2, 0, 0, []), (103, 0, .iload 8, 2, 0, 0, []), (105, 0, .invokevirtual 821, 3, 12, 7, [4205]), (108, 0, .istore 9, 2, 0, 0, []), (110, 0, .iconst 0, 1, 0, 0, []), (111, 0, .istore 10, 2, 0, 0, []), (113, 4, .iload 10, 2, 0, 0, []), (115, 0, .iload 9, 2, 0, 0, []), (117, 0, .if_icmp .ge 29, 3, 0, 0, []), (120, 0, .aload_n 0, 1, 0, 0, []), (121, 0, .getfield 132, 3, 0, 51, [2, 0, 2024]), (124, 0, .iload 5, 2, 0, 0, []), (126, 0, .iinc 5 1, 3, 0, 0, []), (129, 0, .aload 7, 2, 0, 0, []), (131, 0, .iload 8, 2, 0, 0, []), (133, 0, .iload 10, 2, 0, 0, []), (135, 0, .invokevirtual 856, 3, 13, 7, [4228]), (138, 0, .i2b, 1, 0, 0, []), (139, 0, .bastore, 1, 2, 0, []), (140, 0, .iinc 10 1, 3, 0, 0, []), (143, 0, .goto (-30), 3, 0, 0, []), (146, 0, .aload_n 0, 1, 0, 0, []), (147, 0, .getfield 132, 3, 0, 51, [2, 0, 2024]), (150, 0, .iload 5, 2, 0, 0, []), (152, 0, .iinc 5 1, 3, 0, 0, []), (155, 0, .iconst 0, 1, 0, 0, []), (156, 0, .bastore, 1, 2, 0, []), (157, 5, .iinc 8 1, 3, 0, 0, []), (160, 0, .goto (-99), 3, 0, 0, []), (163, 0, .iinc 6 1, 3, 0, 0, []), (166, 0, .goto (-123), 3, 0, 0, []), (169, 0, .iload_n 3, 1, 0, 0, []), (170, 0, .iconst 2, 1, 0, 0, []), (171, 0, .irem, 1, 0, 0, []), (172, 0, .iconst 1, 1, 0, 0, []), (173, 0, .if_icmp .ne 12, 3, 0, 0, []), (176, 0, .aload_n 0, 1, 0, 0, []), (177, 0, .getfield 132, 3, 0, 51, [2, 0, 2024]), (180, 0, .iload 5, 2, 0, 0, []), (182, 0, .bipush 10, 2, 0, 0, []), (184, 0, .bastore, 1, 2, 0, []), (185, 0, .return_, 1, 0, 0, [])]
def m_LinkHouse_layIndex : List aT := [(0, [(0, 2), (1, 0), (2, 0), (3, 0)], []), (43, [(0, 2), (1, 0), (3, 0), (4, 0), (5, 0), (6, 0)], []), (61, [(0, 2), (1, 0), (3, 0), (4, 0), (5, 0), (6, 0), (7, 2), (8, 0)], []), (113, [(0, 2), (1, 0), (3, 0), (4, 0), (5, 0), (6, 0), (7, 2), (8, 0), (9, 0), (10, 0)], []), (157, [(0, 2), (1, 0), (3, 0), (4, 0), (5, 0), (6, 0), (7, 2), (8, 0)], [])]
def B_LinkHouse_layIndex_0 (X : Nat → List Int → AMem → Prop) (Q : Int → AMem → Prop) (x1 x2 x3 : Int) (σ : AMem) : Prop :=
  T_LinkHouse_lay2 [1, 0, 8, 738142165265366049] σ (fun r1 σ2 => T_LinkHouse_layAhead [1, 8, (-1), x3] σ2 (fun r3 σ4 => am_r32 (68 + 4) ∧ am_r32 (4 * x2) ∧ am_r32 ((68 + 4) + (4 * x2)) ∧ T_LinkHouse_lowest [1, 68, 4, x2] σ4 (fun r5 σ6 => X 1 [1, x1, x3, 68, ((68 + 4) + (4 * x2)), 0] σ6)))
def B_LinkHouse_layIndex_1 (X : Nat → List Int → AMem → Prop) (Q : Int → AMem → Prop) (x1 x3 x4 x5 x6 : Int) (σ : AMem) : Prop :=
  (if x6 < x1 then
  0 ≤ x6 ∧ x6 < 7 ∧ X 2 [1, x1, x3, x4, x5, x6, (σ 8353 x6), 1] σ
  else
  (0 : Int) < 2 ∧ (if (x3.tmod 2) = 1 then
    0 ≤ x5 ∧ x5 < 8256 ∧ am_let (am_upd σ 8347 x5 (w8 10)) (fun σ1 => Q 0 σ1)
    else
    Q 0 σ))
def B_LinkHouse_layIndex_2 (X : Nat → List Int → AMem → Prop) (Q : Int → AMem → Prop) (x1 x3 x4 x5 x6 x7 x8 : Int) (σ : AMem) : Prop :=
  (if ly_k x7 = 27 then (if x8 < (am_rd GR σ x7 4) then
  (if ly_k x7 = 27 then T_Part_defines [x7, x8] σ (fun r1 σ2 => (if r1 = 0 then
    X 4 [1, x1, x3, x4, x5, x6, x7, x8] σ2
    else
    am_r32 (x4 + 4) ∧ 0 ≤ x6 ∧ x6 < 7 ∧ T_LinkHouse_lowest [1, (x4 + 4), 4, (σ2 8354 x6)] σ2 (fun r3 σ4 => (if ly_k x7 = 27 then T_Part_letters [x7, x8] σ4 (fun r5 σ6 => X 3 [1, x1, x3, (x4 + 4), x5, x6, x7, x8, r5, 0] σ6) else False)))) else False)
  else
  am_r32 (x6 + 1) ∧ X 1 [1, x1, x3, x4, x5, (x6 + 1)] σ) else False)
def B_LinkHouse_layIndex_3 (X : Nat → List Int → AMem → Prop) (Q : Int → AMem → Prop) (x1 x3 x4 x5 x6 x7 x8 x9 x10 : Int) (σ : AMem) : Prop :=
  (if x10 < x9 then
  am_r32 (x5 + 1) ∧ (if ly_k x7 = 27 then T_Part_letter [x7, x8, x10] σ (fun r2 σ3 => 0 ≤ x5 ∧ x5 < 8256 ∧ am_let (am_upd σ3 8347 x5 (w8 (w8 r2))) (fun σ4 => am_r32 (x10 + 1) ∧ X 3 [1, x1, x3, x4, (x5 + 1), x6, x7, x8, x9, (x10 + 1)] σ4)) else False)
  else
  am_r32 (x5 + 1) ∧ 0 ≤ x5 ∧ x5 < 8256 ∧ am_let (am_upd σ 8347 x5 (w8 0)) (fun σ1 => X 4 [1, x1, x3, x4, (x5 + 1), x6, x7, x8] σ1))
def B_LinkHouse_layIndex_4 (X : Nat → List Int → AMem → Prop) (Q : Int → AMem → Prop) (x1 x3 x4 x5 x6 x7 x8 : Int) (σ : AMem) : Prop :=
  am_r32 (x8 + 1) ∧ X 2 [1, x1, x3, x4, x5, x6, x7, (x8 + 1)] σ
def B_LinkHouse_layIndex : (Nat → List Int → AMem → Prop) → (Int → AMem → Prop) → Nat → List Int → AMem → Prop := fun X Q j v σ => am_sel [(am_v4 (fun t x1 x2 x3 σ => if t = 1 then B_LinkHouse_layIndex_0 X Q x1 x2 x3 σ else False)), (am_v6 (fun t x1 x3 x4 x5 x6 σ => if t = 1 then B_LinkHouse_layIndex_1 X Q x1 x3 x4 x5 x6 σ else False)), (am_v8 (fun t x1 x3 x4 x5 x6 x7 x8 σ => if t = 1 then B_LinkHouse_layIndex_2 X Q x1 x3 x4 x5 x6 x7 x8 σ else False)), (am_v10 (fun t x1 x3 x4 x5 x6 x7 x8 x9 x10 σ => if t = 1 then B_LinkHouse_layIndex_3 X Q x1 x3 x4 x5 x6 x7 x8 x9 x10 σ else False)), (am_v8 (fun t x1 x3 x4 x5 x6 x7 x8 σ => if t = 1 then B_LinkHouse_layIndex_4 X Q x1 x3 x4 x5 x6 x7 x8 σ else False))] j v σ
def T_LinkHouse_layIndex : List Int → AMem → (Int → AMem → Prop) → Prop := am_T B_LinkHouse_layIndex
abbrev y_LinkHouse_layIndex : MethodName := ⟨"LinkHouse", "layIndex", "(III)V"⟩
def a_LinkHouse_layIndex : AC := (117, (y_LinkHouse_layIndex, prog_1_method_80_code, 11, (Option.none : Option Jvm.ClassFile.FieldType)), [2, 0, 0, 0], 3, false, { frames := 2, cells := 0, slots := 0, locals := 68 }, T_LinkHouse_layIndex)
set_option maxRecDepth 100000 in
theorem ms_LinkHouse_layIndex : am_MSp a_LinkHouse_layIndex := am_ms_v 4212 1 4211 103013 0 rfl (by decide +kernel)
abbrev k_LinkHouse_layIndex : List AC := [a_LinkHouse_lay2, a_LinkHouse_layAhead, a_LinkHouse_lowest, a_Part_defines, a_Part_letters, a_Part_letter]
set_option maxRecDepth 100000 in
theorem s_LinkHouse_layIndex : (am_chkR { frames := 2, cells := 0, slots := 0, locals := 68 } k_LinkHouse_layIndex && am_chkN c_LinkHouse_layIndex { frames := 2, cells := 0, slots := 0, locals := 68 } && c_LinkHouse_layIndex.all (am_chk "LinkHouse" prog_1_method_80_code 11 (Option.none : Option Jvm.ClassFile.FieldType) k_LinkHouse_layIndex) && c_LinkHouse_layIndex.all (am_chkL m_LinkHouse_layIndex) && decide (m_LinkHouse_layIndex[0]? = some (0, am_argp 0 [2, 0, 0, 0], [])) && decide (am_argn [2, 0, 0, 0] ≤ 11)) = true := by decide +kernel
set_option maxHeartbeats 150000 in
set_option maxRecDepth 100000 in
theorem h_LinkHouse_layIndex : ∀ X Q j v σ, B_LinkHouse_layIndex X Q j v σ → am_at GR k_LinkHouse_layIndex c_LinkHouse_layIndex m_LinkHouse_layIndex X Q 102 j v σ := fun X Q => am_sel_all (P := fun j v σ => am_at GR k_LinkHouse_layIndex c_LinkHouse_layIndex m_LinkHouse_layIndex X Q 102 j v σ) (⟨(am_v4_of (fun t x1 x2 x3 σ h => am_tk (fun e => by subst e; exact fun h => h) h)), ⟨(am_v6_of (fun t x1 x3 x4 x5 x6 σ h => am_tk (fun e => by subst e; exact fun h => h) h)), ⟨(am_v8_of (fun t x1 x3 x4 x5 x6 x7 x8 σ h => am_tk (fun e => by subst e; exact fun h => h) h)), ⟨(am_v10_of (fun t x1 x3 x4 x5 x6 x7 x8 x9 x10 σ h => am_tk (fun e => by subst e; exact fun h => h) h)), ⟨(am_v8_of (fun t x1 x3 x4 x5 x6 x7 x8 σ h => am_tk (fun e => by subst e; exact fun h => h) h)), trivial⟩⟩⟩⟩⟩)
set_option maxRecDepth 100000 in
theorem S_LinkHouse_layIndex (l : Launch) (w : AW) : am_S l w GR a_LinkHouse_layIndex := am_sound (rt := 3) (cal := k_LinkHouse_layIndex) 117 y_LinkHouse_layIndex prog_1_method_80_code 11 (Option.none : Option Jvm.ClassFile.FieldType) [2, 0, 0, 0] false { frames := 2, cells := 0, slots := 0, locals := 68 } B_LinkHouse_layIndex "LinkHouse" c_LinkHouse_layIndex m_LinkHouse_layIndex 102 ms_LinkHouse_layIndex (by decide +kernel) rfl rfl (am_cal (S_LinkHouse_lay2 l w) (am_cal (S_LinkHouse_layAhead l w) (am_cal (S_LinkHouse_lowest l w) (am_cal (S_Part_defines l w) (am_cal (S_Part_letters l w) (am_cal (S_Part_letter l w) (fun _ h => absurd h List.not_mem_nil))))))) s_LinkHouse_layIndex h_LinkHouse_layIndex
set_option maxRecDepth 100000 in
theorem of_LinkHouse_layIndex {Q : Int → AMem → Prop} {x1 x2 x3 : Int} {σ : AMem} (h : ∀ X : Nat → List Int → AMem → Prop, (∀ (x1 x2 x3 : Int) (σ : AMem), B_LinkHouse_layIndex_0 X Q x1 x2 x3 σ → X 0 [1, x1, x2, x3] σ) → (∀ (x1 x3 x4 x5 x6 : Int) (σ : AMem), B_LinkHouse_layIndex_1 X Q x1 x3 x4 x5 x6 σ → X 1 [1, x1, x3, x4, x5, x6] σ) → (∀ (x1 x3 x4 x5 x6 x7 x8 : Int) (σ : AMem), B_LinkHouse_layIndex_2 X Q x1 x3 x4 x5 x6 x7 x8 σ → X 2 [1, x1, x3, x4, x5, x6, x7, x8] σ) → (∀ (x1 x3 x4 x5 x6 x7 x8 x9 x10 : Int) (σ : AMem), B_LinkHouse_layIndex_3 X Q x1 x3 x4 x5 x6 x7 x8 x9 x10 σ → X 3 [1, x1, x3, x4, x5, x6, x7, x8, x9, x10] σ) → (∀ (x1 x3 x4 x5 x6 x7 x8 : Int) (σ : AMem), B_LinkHouse_layIndex_4 X Q x1 x3 x4 x5 x6 x7 x8 σ → X 4 [1, x1, x3, x4, x5, x6, x7, x8] σ) → X 0 [1, x1, x2, x3] σ) : T_LinkHouse_layIndex [1, x1, x2, x3] σ Q := fun X hX => h X (fun x1 x2 x3 σ h => hX 0 [1, x1, x2, x3] σ h) (fun x1 x3 x4 x5 x6 σ h => hX 1 [1, x1, x3, x4, x5, x6] σ h) (fun x1 x3 x4 x5 x6 x7 x8 σ h => hX 2 [1, x1, x3, x4, x5, x6, x7, x8] σ h) (fun x1 x3 x4 x5 x6 x7 x8 x9 x10 σ h => hX 3 [1, x1, x3, x4, x5, x6, x7, x8, x9, x10] σ h) (fun x1 x3 x4 x5 x6 x7 x8 σ h => hX 4 [1, x1, x3, x4, x5, x6, x7, x8] σ h)
def c_LinkHouse_outs : List aE := [(0, 1, .aload_n 1, 1, 0, 0, []), (1, 0, .iconst 0, 1, 0, 0, []), (2, 0, .aload_n 0, 1, 0, 0, []), (3, 0, .getfield 37, 3, 0, 6, [2, 0, 1219]), (6, 0, .iconst 0, 1, 0, 0, []), (7, 0, .iload_n 2, 1, 0, 0, []), (8, 0, .invokestatic 210, 3, 9999, 0, [3089]), (11, 0, .aload_n 0, 1, 0, 0, []), (12, 0, .iload_n 2, 1, 0, 0, []), (13, 0, .putfield 204, 3, 0, 20, [0, 0, 1233]), (16, 0, .iload_n 2, 1, 0, 0, []), (17, 0, .ireturn, 1, 0, 0, [])]
def m_LinkHouse_outs : List aT := [(0, [(0, 2), (1, 2), (2, 0)], [])]
def B_LinkHouse_outs_0 (X : Nat → List Int → AMem → Prop) (Q : Int → AMem → Prop) (x1 x2 : Int) (σ : AMem) : Prop :=
  (if ly_k x1 = 2 then (if ly_k (σ 1 6) = 2 then (0 : Int) ≤ 0 ∧ (0 : Int) ≤ 0 ∧ 0 ≤ x2 ∧ 0 + x2 ≤ ly_l x1 ∧ 0 + x2 ≤ ly_l (σ 1 6) ∧ am_let (am_cp σ x1 0 (σ 1 6) 0 x2) (fun σ1 => am_let (am_upd σ1 1 20 x2) (fun σ2 => Q x2 σ2)) else False) else False)
def B_LinkHouse_outs : (Nat → List Int → AMem → Prop) → (Int → AMem → Prop) → Nat → List Int → AMem → Prop := fun X Q j v σ => am_sel [(am_v3 (fun t x1 x2 σ => if t = 1 then B_LinkHouse_outs_0 X Q x1 x2 σ else False))] j v σ
def T_LinkHouse_outs : List Int → AMem → (Int → AMem → Prop) → Prop := am_T B_LinkHouse_outs
abbrev y_LinkHouse_outs : MethodName := ⟨"LinkHouse", "outs", "([BI)I"⟩
def a_LinkHouse_outs : AC := (118, (y_LinkHouse_outs, prog_1_method_81_code, 3, (Option.some Jvm.ClassFile.FieldType.int)), [2, 2, 0], 0, false, { frames := 1, cells := 0, slots := 0, locals := 34 }, T_LinkHouse_outs)
set_option maxRecDepth 100000 in
theorem ms_LinkHouse_outs : am_MSp a_LinkHouse_outs := am_ms_v 4232 1 4231 104001 0 rfl (by decide +kernel)
abbrev k_LinkHouse_outs : List AC := []
set_option maxRecDepth 100000 in
theorem s_LinkHouse_outs : (am_chkR { frames := 1, cells := 0, slots := 0, locals := 34 } k_LinkHouse_outs && am_chkN c_LinkHouse_outs { frames := 1, cells := 0, slots := 0, locals := 34 } && c_LinkHouse_outs.all (am_chk "LinkHouse" prog_1_method_81_code 3 (Option.some Jvm.ClassFile.FieldType.int) k_LinkHouse_outs) && c_LinkHouse_outs.all (am_chkL m_LinkHouse_outs) && decide (m_LinkHouse_outs[0]? = some (0, am_argp 0 [2, 2, 0], [])) && decide (am_argn [2, 2, 0] ≤ 3)) = true := by decide +kernel
set_option maxHeartbeats 150000 in
set_option maxRecDepth 100000 in
theorem h_LinkHouse_outs : ∀ X Q j v σ, B_LinkHouse_outs X Q j v σ → am_at GR k_LinkHouse_outs c_LinkHouse_outs m_LinkHouse_outs X Q 20 j v σ := fun X Q => am_sel_all (P := fun j v σ => am_at GR k_LinkHouse_outs c_LinkHouse_outs m_LinkHouse_outs X Q 20 j v σ) (⟨(am_v3_of (fun t x1 x2 σ h => am_tk (fun e => by subst e; exact fun h => h) h)), trivial⟩)
set_option maxRecDepth 100000 in
theorem S_LinkHouse_outs (l : Launch) (w : AW) : am_S l w GR a_LinkHouse_outs := am_sound (rt := 0) (cal := k_LinkHouse_outs) 118 y_LinkHouse_outs prog_1_method_81_code 3 (Option.some Jvm.ClassFile.FieldType.int) [2, 2, 0] false { frames := 1, cells := 0, slots := 0, locals := 34 } B_LinkHouse_outs "LinkHouse" c_LinkHouse_outs m_LinkHouse_outs 20 ms_LinkHouse_outs (by decide +kernel) rfl rfl (fun _ h => absurd h List.not_mem_nil) s_LinkHouse_outs h_LinkHouse_outs
set_option maxRecDepth 100000 in
theorem of_LinkHouse_outs {Q : Int → AMem → Prop} {x1 x2 : Int} {σ : AMem} (h : ∀ X : Nat → List Int → AMem → Prop, (∀ (x1 x2 : Int) (σ : AMem), B_LinkHouse_outs_0 X Q x1 x2 σ → X 0 [1, x1, x2] σ) → X 0 [1, x1, x2] σ) : T_LinkHouse_outs [1, x1, x2] σ Q := fun X hX => h X (fun x1 x2 σ h => hX 0 [1, x1, x2] σ h)
set_option maxRecDepth 100000 in
theorem iff_LinkHouse_outs {Q : Int → AMem → Prop} {X : Nat → List Int → AMem → Prop} {x1 x2 : Int} {σ : AMem} : T_LinkHouse_outs [1, x1, x2] σ Q ↔ B_LinkHouse_outs_0 X Q x1 x2 σ := ⟨fun h => h (fun j v σ => B_LinkHouse_outs X Q j v σ) (fun _ _ _ q => q), fun h _ hX => hX 0 _ _ h⟩
def c_LinkHouse_pack : List aE := [(0, 1, .aload_n 0, 1, 0, 0, []), (1, 0, .invokevirtual 831, 3, 111, 0, [4197]), (4, 0, .istore_n 1, 1, 0, 0, []), (5, 0, .iload_n 1, 1, 0, 0, []), (6, 0, .bipush 7, 2, 0, 0, []), (8, 0, .if_icmp .le 5, 3, 0, 0, []), (11, 0, .iconst (-1), 1, 0, 0, []), (12, 0, .ireturn, 1, 0, 0, []), (13, 0, .aload_n 0, 1, 0, 0, []), (14, 0, .iload_n 1, 1, 0, 0, []), (15, 0, .iconst 0, 1, 0, 0, []), (16, 0, .invokevirtual 834, 3, 112, 0, [4201]), (19, 0, .istore_n 2, 1, 0, 0, []), (20, 0, .iconst 4, 1, 0, 0, []), (21, 0, .iconst 4, 1, 0, 0, []), (22, 0, .iload_n 2, 1, 0, 0, []), (23, 0, .imul, 1, 0, 0, []), (24, 0, .iadd, 1, 0, 0, []), (25, 0, .aload_n 0, 1, 0, 0, []), (26, 0, .iload_n 1, 1, 0, 0, []), (27, 0, .iconst 1, 1, 0, 0, []), (28, 0, .invokevirtual 834, 3, 112, 0, [4201]), (31, 0, .iadd, 1, 0, 0, []), (32, 0, .istore_n 3, 1, 0, 0, []), (33, 0, .bipush 68, 2, 0, 0, []), (35, 0, .iload_n 3, 1, 0, 0, []), (36, 0, .invokestatic 838, 3, 113, 0, [4206]), (39, 0, .iadd, 1, 0, 0, []), (40, 0, .istore 4, 2, 0, 0, []), (42, 0, .iconst 0, 1, 0, 0, []), (43, 0, .istore 5, 2, 0, 0, []), (45, 2, .iload 5, 2, 0, 0, []), (47, 0, .iload_n 1, 1, 0, 0, []), (48, 0, .if_icmp .ge 39, 3, 0, 0, []), (51, 0, .aload_n 0, 1, 0, 0, []), (52, 0, .getfield 156, 3, 0, 62, [2, 0, 2035]), (55, 0, .iload 5, 2, 0, 0, []), (57, 0, .iload 4, 2, 0, 0, []), (59, 0, .iastore, 1, 0, 0, []), (60, 0, .iload 4, 2, 0, 0, []), (62, 0, .bipush 60, 2, 0, 0, []), (64, 0, .aload_n 0, 1, 0, 0, []), (65, 0, .getfield 153, 3, 0, 61, [2, 0, 2034]), (68, 0, .iload 5, 2, 0, 0, []), (70, 0, .aaload, 1, 5, 0, []), (71, 0, .getfield 841, 3, 7, 2, [0, 0, 1071]), (74, 0, .invokestatic 838, 3, 113, 0, [4206]), (77, 0, .iadd, 1, 0, 0, []), (78, 0, .iadd, 1, 0, 0, []), (79, 0, .istore 4, 2, 0, 0, []), (81, 0, .iinc 5 1, 3, 0, 0, []), (84, 0, .goto (-39), 3, 0, 0, []), (87, 0, .iload 4, 2, 0, 0, []), (89, 0, .sipush 8192, 3, 0, 0, []), (92, 0, .if_icmp .le 5, 3, 0, 0, []), (95, 0, .iconst (-1), 1, 0, 0, []), (96, 0, .ireturn, 1, 0, 0, []), (97, 0, .aload_n 0, 1, 0, 0, []), (98, 0, .iload_n 1, 1, 0, 0, []), (99, 0, .iload_n 2, 1, 0, 0, []), (100, 0, .iload_n 3, 1, 0, 0, []), (101, 0, .invokevirtual 842, 3, 117, 0, [4209]), (104, 0, .iconst 0, 1, 0, 0, []), (105, 0, .istore 5, 2, 0, 0, []), (107, 3, .iload 5, 2, 0, 0, []), (109, 0, .iload_n 1, 1, 0, 0, []), (110, 0, .if_icmp .ge 102, 3, 0, 0, []), (113, 0, .aload_n 0, 1, 0, 0, []), (114, 0, .getfield 153, 3, 0, 61, [2, 0, 2034]), (117, 0, .iload 5, 2, 0, 0, []), (119, 0, .aaload, 1, 5, 0, []), (120, 0, .astore 6, 2, 0, 0, []), (122, 0, .aload_n 0, 1, 0, 0, []), (123, 0, .aload_n 0, 1, 0, 0, []), (124, 0, .getfield 156, 3, 0, 62, [2, 0, 2035]), (127, 0, .iload 5, 2, 0, 0, []), (129, 0, .iaload, 1, 0, 0, []), (130, 0, .iload 5, 2, 0, 0, []), (132, 0, .aload 6, 2, 0, 0, []), (134, 0, .getfield 841, 3, 7, 2, [0, 0, 1071]), (137, 0, .invokevirtual 845, 3, 115, 0, [4214]), (140, 0, .aload 6, 2, 0, 0, []), (142, 0, .getfield 597, 3, 7, 0, [2, 0, 1065]), (145, 0, .aload 6, 2, 0, 0, []), (147, 0, .getfield 599, 3, 7, 1, [0, 0, 1068]), (150, 0, .aload_n 0, 1, 0, 0, []), (151, 0, .getfield 132, 3, 0, 51, [2, 0, 2024]), (154, 0, .aload_n 0, 1, 0, 0, []), (155, 0, .getfield 156, 3, 0, 62, [2, 0, 2035]), (158, 0, .iload 5, 2, 0, 0, []), (160, 0, .iaload, 1, 0, 0, []), (161, 0, .bipush 60, 2, 0, 0, []), (163, 0, .iadd, 1, 0, 0, []), (164, 0, .aload 6, 2, 0, 0, []), (166, 0, .getfield 841, 3, 7, 2, [0, 0, 1071]), (169, 0, .invokestatic 210, 3, 9999, 0, [3089]), (172, 0, .aload 6, 2, 0, 0, []), (174, 0, .getfield 841, 3, 7, 2, [0, 0, 1071]), (177, 0, .iconst 2, 1, 0, 0, []), (178, 0, .irem, 1, 0, 0, []), (179, 0, .iconst 1, 1, 0, 0, []), (180, 0, .if_icmp .ne 26, 3, 0, 0, []), (183, 0, .aload_n 0, 1, 0, 0, []), (184, 0, .getfield 132, 3, 0, 51, [2, 0, 2024]), (187, 0, .aload_n 0, 1, 0, 0, []), (188, 0, .getfield 156, 3, 0, 62, [2, 0, 2035]), (191, 0, .iload 5, 2, 0, 0, []), (193, 0, .iaload, 1, 0, 0, []), (194, 0, .bipush 60, 2, 0, 0, []), (196, 0, .iadd, 1, 0, 0, []), (197, 0, .aload 6, 2, 0, 0, []), (199, 0, .getfield 841, 3, 7, 2, [0, 0, 1071]), (202, 0, .iadd, 1, 0, 0, []), (203, 0, .bipush 10, 2, 0, 0, []), (205, 0, .bastore, 1, 2, 0, []), (206, 4, .iinc 5 1, 3, 0, 0, []), (209, 0, .goto (-102), 3, 0, 0, []), (212, 0, .aload_n 0, 1, 0, 0, []), (213, 0, .aload_n 0, 1, 0, 0, []), (214, 0, .getfield 132, 3, 0, 51, [2, 0, 2024]), (217, 0, .iload 4, 2, 0, 0, []), (219, 0, .invokevirtual 848, 3, 118, 0, [4229]), (222, 0, .ireturn, 1, 0, 0, [])]
def m_LinkHouse_pack : List aT := [(0, [(0, 2)], []), (45, [(0, 2), (1, 0), (2, 0), (3, 0), (4, 0), (5, 0)], []), (107, [(0, 2), (1, 0), (4, 0), (5, 0)], []), (206, [(0, 2), (1, 0), (4, 0), (5, 0)], [])]
def B_LinkHouse_pack_0 (X : Nat → List Int → AMem → Prop) (Q : Int → AMem → Prop) (σ : AMem) : Prop :=
  T_LinkHouse_gatherObjects [1] σ (fun r1 σ2 => (if 7 < r1 then
  Q (-1) σ2
  else
  T_LinkHouse_defined [1, r1, 0] σ2 (fun r3 σ4 => am_r32 (4 * r3) ∧ am_r32 (4 + (4 * r3)) ∧ T_LinkHouse_defined [1, r1, 1] σ4 (fun r5 σ6 => am_r32 ((4 + (4 * r3)) + r5) ∧ T_LinkHouse_even [((4 + (4 * r3)) + r5)] σ6 (fun r7 σ8 => am_r32 (68 + r7) ∧ X 1 [1, r1, r3, ((4 + (4 * r3)) + r5), (68 + r7), 0] σ8)))))
def B_LinkHouse_pack_1 (X : Nat → List Int → AMem → Prop) (Q : Int → AMem → Prop) (x1 x2 x3 x4 x5 : Int) (σ : AMem) : Prop :=
  (if x5 < x1 then
  0 ≤ x5 ∧ x5 < 7 ∧ am_let (am_upd σ 8354 x5 x4) (fun σ3 => 0 ≤ x5 ∧ x5 < 7 ∧ (if ly_k (σ3 8353 x5) = 27 then T_LinkHouse_even [(am_rd GR σ3 (σ3 8353 x5) 2)] σ3 (fun r4 σ5 => am_r32 (60 + r4) ∧ am_r32 (x4 + (60 + r4)) ∧ am_r32 (x5 + 1) ∧ X 1 [1, x1, x2, x3, (x4 + (60 + r4)), (x5 + 1)] σ5) else False))
  else
  (if 8192 < x4 then
    Q (-1) σ
    else
    T_LinkHouse_layIndex [1, x1, x2, x3] σ (fun r1 σ2 => X 2 [1, x1, x4, 0] σ2)))
def B_LinkHouse_pack_2 (X : Nat → List Int → AMem → Prop) (Q : Int → AMem → Prop) (x1 x4 x5 : Int) (σ : AMem) : Prop :=
  (if x5 < x1 then
  0 ≤ x5 ∧ x5 < 7 ∧ 0 ≤ x5 ∧ x5 < 7 ∧ (if ly_k (σ 8353 x5) = 27 then T_LinkHouse_layAhead [1, (σ 8354 x5), x5, (am_rd GR σ (σ 8353 x5) 2)] σ (fun r3 σ4 => (if ly_k (σ 8353 x5) = 27 then (if ly_k (σ 8353 x5) = 27 then 0 ≤ x5 ∧ x5 < 7 ∧ am_r32 ((σ4 8354 x5) + 60) ∧ (if ly_k (σ 8353 x5) = 27 then (if ly_k (am_rd GR σ4 (σ 8353 x5) 0) = 2 then 0 ≤ (am_rd GR σ4 (σ 8353 x5) 1) ∧ 0 ≤ ((σ4 8354 x5) + 60) ∧ 0 ≤ (am_rd GR σ4 (σ 8353 x5) 2) ∧ (am_rd GR σ4 (σ 8353 x5) 1) + (am_rd GR σ4 (σ 8353 x5) 2) ≤ ly_l (am_rd GR σ4 (σ 8353 x5) 0) ∧ ((σ4 8354 x5) + 60) + (am_rd GR σ4 (σ 8353 x5) 2) ≤ 8256 ∧ am_let (am_cp σ4 (am_rd GR σ4 (σ 8353 x5) 0) (am_rd GR σ4 (σ 8353 x5) 1) 8347 ((σ4 8354 x5) + 60) (am_rd GR σ4 (σ 8353 x5) 2)) (fun σ5 => (if ly_k (σ 8353 x5) = 27 then (0 : Int) < 2 ∧ (if ((am_rd GR σ5 (σ 8353 x5) 2).tmod 2) = 1 then
    0 ≤ x5 ∧ x5 < 7 ∧ am_r32 ((σ5 8354 x5) + 60) ∧ (if ly_k (σ 8353 x5) = 27 then am_r32 (((σ5 8354 x5) + 60) + (am_rd GR σ5 (σ 8353 x5) 2)) ∧ 0 ≤ (((σ5 8354 x5) + 60) + (am_rd GR σ5 (σ 8353 x5) 2)) ∧ (((σ5 8354 x5) + 60) + (am_rd GR σ5 (σ 8353 x5) 2)) < 8256 ∧ am_let (am_upd σ5 8347 (((σ5 8354 x5) + 60) + (am_rd GR σ5 (σ 8353 x5) 2)) (w8 10)) (fun σ6 => X 3 [1, x1, x4, x5] σ6) else False)
    else
    X 3 [1, x1, x4, x5] σ5) else False)) else False) else False) else False) else False)) else False)
  else
  T_LinkHouse_outs [1, 8347, x4] σ (fun r1 σ2 => Q r1 σ2))
def B_LinkHouse_pack_3 (X : Nat → List Int → AMem → Prop) (Q : Int → AMem → Prop) (x1 x4 x5 : Int) (σ : AMem) : Prop :=
  am_r32 (x5 + 1) ∧ X 2 [1, x1, x4, (x5 + 1)] σ
def B_LinkHouse_pack : (Nat → List Int → AMem → Prop) → (Int → AMem → Prop) → Nat → List Int → AMem → Prop := fun X Q j v σ => am_sel [(am_v1 (fun t σ => if t = 1 then B_LinkHouse_pack_0 X Q σ else False)), (am_v6 (fun t x1 x2 x3 x4 x5 σ => if t = 1 then B_LinkHouse_pack_1 X Q x1 x2 x3 x4 x5 σ else False)), (am_v4 (fun t x1 x4 x5 σ => if t = 1 then B_LinkHouse_pack_2 X Q x1 x4 x5 σ else False)), (am_v4 (fun t x1 x4 x5 σ => if t = 1 then B_LinkHouse_pack_3 X Q x1 x4 x5 σ else False))] j v σ
def T_LinkHouse_pack : List Int → AMem → (Int → AMem → Prop) → Prop := am_T B_LinkHouse_pack
abbrev y_LinkHouse_pack : MethodName := ⟨"LinkHouse", "pack", "()I"⟩
def a_LinkHouse_pack : AC := (119, (y_LinkHouse_pack, prog_1_method_79_code, 7, (Option.some Jvm.ClassFile.FieldType.int)), [2], 0, false, { frames := 3, cells := 0, slots := 0, locals := 106 }, T_LinkHouse_pack)
set_option maxRecDepth 100000 in
theorem ms_LinkHouse_pack : am_MSp a_LinkHouse_pack := am_ms_v 4196 1 4194 4195 0 rfl (by decide +kernel)
abbrev k_LinkHouse_pack : List AC := [a_LinkHouse_gatherObjects, a_LinkHouse_defined, a_LinkHouse_even, a_LinkHouse_layIndex, a_LinkHouse_layAhead, a_LinkHouse_outs]
set_option maxRecDepth 100000 in
theorem s_LinkHouse_pack : (am_chkR { frames := 3, cells := 0, slots := 0, locals := 106 } k_LinkHouse_pack && am_chkN c_LinkHouse_pack { frames := 3, cells := 0, slots := 0, locals := 106 } && c_LinkHouse_pack.all (am_chk "LinkHouse" prog_1_method_79_code 7 (Option.some Jvm.ClassFile.FieldType.int) k_LinkHouse_pack) && c_LinkHouse_pack.all (am_chkL m_LinkHouse_pack) && decide (m_LinkHouse_pack[0]? = some (0, am_argp 0 [2], [])) && decide (am_argn [2] ≤ 7)) = true := by decide +kernel
set_option maxHeartbeats 150000 in
set_option maxRecDepth 100000 in
theorem h_LinkHouse_pack : ∀ X Q j v σ, B_LinkHouse_pack X Q j v σ → am_at GR k_LinkHouse_pack c_LinkHouse_pack m_LinkHouse_pack X Q 128 j v σ := fun X Q => am_sel_all (P := fun j v σ => am_at GR k_LinkHouse_pack c_LinkHouse_pack m_LinkHouse_pack X Q 128 j v σ) (⟨(am_v1_of (fun t σ h => am_tk (fun e => by subst e; exact fun h => h) h)), ⟨(am_v6_of (fun t x1 x2 x3 x4 x5 σ h => am_tk (fun e => by subst e; exact fun h => h) h)), ⟨(am_v4_of (fun t x1 x4 x5 σ h => am_tk (fun e => by subst e; exact fun h => h) h)), ⟨(am_v4_of (fun t x1 x4 x5 σ h => am_tk (fun e => by subst e; exact fun h => h) h)), trivial⟩⟩⟩⟩)
set_option maxRecDepth 100000 in
theorem S_LinkHouse_pack (l : Launch) (w : AW) : am_S l w GR a_LinkHouse_pack := am_sound (rt := 0) (cal := k_LinkHouse_pack) 119 y_LinkHouse_pack prog_1_method_79_code 7 (Option.some Jvm.ClassFile.FieldType.int) [2] false { frames := 3, cells := 0, slots := 0, locals := 106 } B_LinkHouse_pack "LinkHouse" c_LinkHouse_pack m_LinkHouse_pack 128 ms_LinkHouse_pack (by decide +kernel) rfl rfl (am_cal (S_LinkHouse_gatherObjects l w) (am_cal (S_LinkHouse_defined l w) (am_cal (S_LinkHouse_even l w) (am_cal (S_LinkHouse_layIndex l w) (am_cal (S_LinkHouse_layAhead l w) (am_cal (S_LinkHouse_outs l w) (fun _ h => absurd h List.not_mem_nil))))))) s_LinkHouse_pack h_LinkHouse_pack
set_option maxRecDepth 100000 in
theorem of_LinkHouse_pack {Q : Int → AMem → Prop} {σ : AMem} (h : ∀ X : Nat → List Int → AMem → Prop, (∀ (σ : AMem), B_LinkHouse_pack_0 X Q σ → X 0 [1] σ) → (∀ (x1 x2 x3 x4 x5 : Int) (σ : AMem), B_LinkHouse_pack_1 X Q x1 x2 x3 x4 x5 σ → X 1 [1, x1, x2, x3, x4, x5] σ) → (∀ (x1 x4 x5 : Int) (σ : AMem), B_LinkHouse_pack_2 X Q x1 x4 x5 σ → X 2 [1, x1, x4, x5] σ) → (∀ (x1 x4 x5 : Int) (σ : AMem), B_LinkHouse_pack_3 X Q x1 x4 x5 σ → X 3 [1, x1, x4, x5] σ) → X 0 [1] σ) : T_LinkHouse_pack [1] σ Q := fun X hX => h X (fun σ h => hX 0 [1] σ h) (fun x1 x2 x3 x4 x5 σ h => hX 1 [1, x1, x2, x3, x4, x5] σ h) (fun x1 x4 x5 σ h => hX 2 [1, x1, x4, x5] σ h) (fun x1 x4 x5 σ h => hX 3 [1, x1, x4, x5] σ h)
def c_Loader_find : List aE := [(0, 1, .iconst 0, 1, 0, 0, []), (1, 0, .istore_n 3, 1, 0, 0, []), (2, 2, .iload_n 3, 1, 0, 0, []), (3, 0, .aload_n 0, 1, 0, 0, []), (4, 0, .getfield 119, 3, 1, 9, [0, 0, 44]), (7, 0, .if_icmp .ge 40, 3, 0, 0, []), (10, 0, .lload_n 1, 1, 0, 0, []), (11, 0, .aload_n 0, 1, 0, 0, []), (12, 0, .getfield 16, 3, 1, 1, [2, 0, 35]), (15, 0, .iload_n 3, 1, 0, 0, []), (16, 0, .laload, 1, 0, 0, []), (17, 0, .lcmp, 1, 0, 0, []), (18, 0, .ifCond .lt 23, 3, 0, 0, []), (21, 0, .lload_n 1, 1, 0, 0, []), (22, 0, .aload_n 0, 1, 0, 0, []), (23, 0, .getfield 16, 3, 1, 1, [2, 0, 35]), (26, 0, .iload_n 3, 1, 0, 0, []), (27, 0, .laload, 1, 0, 0, []), (28, 0, .aload_n 0, 1, 0, 0, []), (29, 0, .getfield 20, 3, 1, 2, [2, 0, 36]), (32, 0, .iload_n 3, 1, 0, 0, []), (33, 0, .laload, 1, 0, 0, []), (34, 0, .ladd, 1, 0, 0, []), (35, 0, .lcmp, 1, 0, 0, []), (36, 0, .ifCond .ge 5, 3, 0, 0, []), (39, 0, .iload_n 3, 1, 0, 0, []), (40, 0, .ireturn, 1, 0, 0, []), (41, 3, .iinc 3 1, 3, 0, 0, []), (44, 0, .goto (-42), 3, 0, 0, []), (47, 0, .iconst (-1), 1, 0, 0, []), (48, 0, .ireturn, 1, 0, 0, [])]
def m_Loader_find : List aT := [(0, [(0, 2), (1, 1)], []), (2, [(0, 2), (1, 1), (3, 0)], []), (41, [(0, 2), (1, 1), (3, 0)], [])]
def B_Loader_find_0 (X : Nat → List Int → AMem → Prop) (Q : Int → AMem → Prop) (x1 : Int) (σ : AMem) : Prop :=
  X 1 [2, x1, 0] σ
def B_Loader_find_1 (X : Nat → List Int → AMem → Prop) (Q : Int → AMem → Prop) (x1 x3 : Int) (σ : AMem) : Prop :=
  (if x3 < (σ 2 9) then
  0 ≤ x3 ∧ x3 < 8 ∧ (if x1 < (σ 4 x3) then
    X 2 [2, x1, x3] σ
    else
    0 ≤ x3 ∧ x3 < 8 ∧ 0 ≤ x3 ∧ x3 < 8 ∧ (if x1 < (w64 ((σ 4 x3) + (σ 5 x3))) then
      Q x3 σ
      else
      X 2 [2, x1, x3] σ))
  else
  Q (-1) σ)
def B_Loader_find_2 (X : Nat → List Int → AMem → Prop) (Q : Int → AMem → Prop) (x1 x3 : Int) (σ : AMem) : Prop :=
  am_r32 (x3 + 1) ∧ X 1 [2, x1, (x3 + 1)] σ
def B_Loader_find : (Nat → List Int → AMem → Prop) → (Int → AMem → Prop) → Nat → List Int → AMem → Prop := fun X Q j v σ => am_sel [(am_v2 (fun t x1 σ => if t = 2 then B_Loader_find_0 X Q x1 σ else False)), (am_v3 (fun t x1 x3 σ => if t = 2 then B_Loader_find_1 X Q x1 x3 σ else False)), (am_v3 (fun t x1 x3 σ => if t = 2 then B_Loader_find_2 X Q x1 x3 σ else False))] j v σ
def T_Loader_find : List Int → AMem → (Int → AMem → Prop) → Prop := am_T B_Loader_find
abbrev y_Loader_find : MethodName := ⟨"LinkHouse$Loader", "find", "(J)I"⟩
def a_Loader_find : AC := (120, (y_Loader_find, prog_3_method_12_code, 4, (Option.some Jvm.ClassFile.FieldType.int)), [2, 1], 0, false, { frames := 0, cells := 0, slots := 0, locals := 0 }, T_Loader_find)
set_option maxRecDepth 100000 in
theorem ms_Loader_find : am_MSp a_Loader_find := am_ms_v 5000 2 4238 4239 1 rfl (by decide +kernel)
abbrev k_Loader_find : List AC := []
set_option maxRecDepth 100000 in
theorem s_Loader_find : (am_chkR { frames := 0, cells := 0, slots := 0, locals := 0 } k_Loader_find && am_chkN c_Loader_find { frames := 0, cells := 0, slots := 0, locals := 0 } && c_Loader_find.all (am_chk "LinkHouse$Loader" prog_3_method_12_code 4 (Option.some Jvm.ClassFile.FieldType.int) k_Loader_find) && c_Loader_find.all (am_chkL m_Loader_find) && decide (m_Loader_find[0]? = some (0, am_argp 0 [2, 1], [])) && decide (am_argn [2, 1] ≤ 4)) = true := by decide +kernel
set_option maxHeartbeats 150000 in
set_option maxRecDepth 100000 in
theorem h_Loader_find : ∀ X Q j v σ, B_Loader_find X Q j v σ → am_at GR k_Loader_find c_Loader_find m_Loader_find X Q 36 j v σ := fun X Q => am_sel_all (P := fun j v σ => am_at GR k_Loader_find c_Loader_find m_Loader_find X Q 36 j v σ) (⟨(am_v2_of (fun t x1 σ h => am_tk (fun e => by subst e; exact fun h => h) h)), ⟨(am_v3_of (fun t x1 x3 σ h => am_tk (fun e => by subst e; exact fun h => h) h)), ⟨(am_v3_of (fun t x1 x3 σ h => am_tk (fun e => by subst e; exact fun h => h) h)), trivial⟩⟩⟩)
set_option maxRecDepth 100000 in
theorem S_Loader_find (l : Launch) (w : AW) : am_S l w GR a_Loader_find := am_sound (rt := 0) (cal := k_Loader_find) 120 y_Loader_find prog_3_method_12_code 4 (Option.some Jvm.ClassFile.FieldType.int) [2, 1] false { frames := 0, cells := 0, slots := 0, locals := 0 } B_Loader_find "LinkHouse$Loader" c_Loader_find m_Loader_find 36 ms_Loader_find (by decide +kernel) rfl rfl (fun _ h => absurd h List.not_mem_nil) s_Loader_find h_Loader_find
set_option maxRecDepth 100000 in
theorem of_Loader_find {Q : Int → AMem → Prop} {x1 : Int} {σ : AMem} (h : ∀ X : Nat → List Int → AMem → Prop, (∀ (x1 : Int) (σ : AMem), B_Loader_find_0 X Q x1 σ → X 0 [2, x1] σ) → (∀ (x1 x3 : Int) (σ : AMem), B_Loader_find_1 X Q x1 x3 σ → X 1 [2, x1, x3] σ) → (∀ (x1 x3 : Int) (σ : AMem), B_Loader_find_2 X Q x1 x3 σ → X 2 [2, x1, x3] σ) → X 0 [2, x1] σ) : T_Loader_find [2, x1] σ Q := fun X hX => h X (fun x1 σ h => hX 0 [2, x1] σ h) (fun x1 x3 σ h => hX 1 [2, x1, x3] σ h) (fun x1 x3 σ h => hX 2 [2, x1, x3] σ h)
def c_Loader_near : List aE := [(0, 1, .iconst (-1), 1, 0, 0, []), (1, 0, .istore_n 3, 1, 0, 0, []), (2, 0, .iconst 0, 1, 0, 0, []), (3, 0, .istore 4, 2, 0, 0, []), (5, 2, .iload 4, 2, 0, 0, []), (7, 0, .aload_n 0, 1, 0, 0, []), (8, 0, .getfield 127, 3, 1, 17, [0, 0, 55]), (11, 0, .if_icmp .ge 57, 3, 0, 0, []), (14, 0, .aload_n 0, 1, 0, 0, []), (15, 0, .getfield 41, 3, 1, 14, [2, 0, 51]), (18, 0, .iload 4, 2, 0, 0, []), (20, 0, .laload, 1, 0, 0, []), (21, 0, .lconst 0, 1, 0, 0, []), (22, 0, .lcmp, 1, 0, 0, []), (23, 0, .ifCond .lt 39, 3, 0, 0, []), (26, 0, .aload_n 0, 1, 0, 0, []), (27, 0, .getfield 41, 3, 1, 14, [2, 0, 51]), (30, 0, .iload 4, 2, 0, 0, []), (32, 0, .laload, 1, 0, 0, []), (33, 0, .lload_n 1, 1, 0, 0, []), (34, 0, .lcmp, 1, 0, 0, []), (35, 0, .ifCond .gt 27, 3, 0, 0, []), (38, 0, .iload_n 3, 1, 0, 0, []), (39, 0, .ifCond .lt 20, 3, 0, 0, []), (42, 0, .aload_n 0, 1, 0, 0, []), (43, 0, .getfield 41, 3, 1, 14, [2, 0, 51]), (46, 0, .iload 4, 2, 0, 0, []), (48, 0, .laload, 1, 0, 0, []), (49, 0, .aload_n 0, 1, 0, 0, []), (50, 0, .getfield 41, 3, 1, 14, [2, 0, 51]), (53, 0, .iload_n 3, 1, 0, 0, []), (54, 0, .laload, 1, 0, 0, []), (55, 0, .lcmp, 1, 0, 0, []), (56, 0, .ifCond .le 6, 3, 0, 0, []), (59, 3, .iload 4, 2, 0, 0, []), (61, 0, .istore_n 3, 1, 0, 0, []), (62, 4, .iinc 4 1, 3, 0, 0, []), (65, 0, .goto (-60), 3, 0, 0, []), (68, 0, .iload_n 3, 1, 0, 0, []), (69, 0, .ireturn, 1, 0, 0, [])]
def m_Loader_near : List aT := [(0, [(0, 2), (1, 1)], []), (5, [(0, 2), (1, 1), (3, 0), (4, 0)], []), (59, [(0, 2), (1, 1), (4, 0)], []), (62, [(0, 2), (1, 1), (3, 0), (4, 0)], [])]
def B_Loader_near_0 (X : Nat → List Int → AMem → Prop) (Q : Int → AMem → Prop) (x1 : Int) (σ : AMem) : Prop :=
  X 1 [2, x1, (-1), 0] σ
def B_Loader_near_1 (X : Nat → List Int → AMem → Prop) (Q : Int → AMem → Prop) (x1 x3 x4 : Int) (σ : AMem) : Prop :=
  (if x4 < (σ 2 17) then
  0 ≤ x4 ∧ x4 < 2731 ∧ (if (σ 12 x4) < 0 then
    X 3 [2, x1, x3, x4] σ
    else
    0 ≤ x4 ∧ x4 < 2731 ∧ (if x1 < (σ 12 x4) then
      X 3 [2, x1, x3, x4] σ
      else
      (if x3 < 0 then
        X 2 [2, x1, x4] σ
        else
        0 ≤ x4 ∧ x4 < 2731 ∧ 0 ≤ x3 ∧ x3 < 2731 ∧ (if (σ 12 x3) < (σ 12 x4) then
          X 2 [2, x1, x4] σ
          else
          X 3 [2, x1, x3, x4] σ))))
  else
  Q x3 σ)
def B_Loader_near_2 (X : Nat → List Int → AMem → Prop) (Q : Int → AMem → Prop) (x1 x4 : Int) (σ : AMem) : Prop :=
  X 3 [2, x1, x4, x4] σ
def B_Loader_near_3 (X : Nat → List Int → AMem → Prop) (Q : Int → AMem → Prop) (x1 x3 x4 : Int) (σ : AMem) : Prop :=
  am_r32 (x4 + 1) ∧ X 1 [2, x1, x3, (x4 + 1)] σ
def B_Loader_near : (Nat → List Int → AMem → Prop) → (Int → AMem → Prop) → Nat → List Int → AMem → Prop := fun X Q j v σ => am_sel [(am_v2 (fun t x1 σ => if t = 2 then B_Loader_near_0 X Q x1 σ else False)), (am_v4 (fun t x1 x3 x4 σ => if t = 2 then B_Loader_near_1 X Q x1 x3 x4 σ else False)), (am_v3 (fun t x1 x4 σ => if t = 2 then B_Loader_near_2 X Q x1 x4 σ else False)), (am_v4 (fun t x1 x3 x4 σ => if t = 2 then B_Loader_near_3 X Q x1 x3 x4 σ else False))] j v σ
def T_Loader_near : List Int → AMem → (Int → AMem → Prop) → Prop := am_T B_Loader_near
abbrev y_Loader_near : MethodName := ⟨"LinkHouse$Loader", "near", "(J)I"⟩
def a_Loader_near : AC := (121, (y_Loader_near, prog_3_method_10_code, 5, (Option.some Jvm.ClassFile.FieldType.int)), [2, 1], 0, false, { frames := 0, cells := 0, slots := 0, locals := 0 }, T_Loader_near)
set_option maxRecDepth 100000 in
theorem ms_Loader_near : am_MSp a_Loader_near := am_ms_v 5004 2 5002 5003 1 rfl (by decide +kernel)
abbrev k_Loader_near : List AC := []
set_option maxRecDepth 100000 in
theorem s_Loader_near : (am_chkR { frames := 0, cells := 0, slots := 0, locals := 0 } k_Loader_near && am_chkN c_Loader_near { frames := 0, cells := 0, slots := 0, locals := 0 } && c_Loader_near.all (am_chk "LinkHouse$Loader" prog_3_method_10_code 5 (Option.some Jvm.ClassFile.FieldType.int) k_Loader_near) && c_Loader_near.all (am_chkL m_Loader_near) && decide (m_Loader_near[0]? = some (0, am_argp 0 [2, 1], [])) && decide (am_argn [2, 1] ≤ 5)) = true := by decide +kernel
set_option maxHeartbeats 150000 in
set_option maxRecDepth 100000 in
theorem h_Loader_near : ∀ X Q j v σ, B_Loader_near X Q j v σ → am_at GR k_Loader_near c_Loader_near m_Loader_near X Q 45 j v σ := fun X Q => am_sel_all (P := fun j v σ => am_at GR k_Loader_near c_Loader_near m_Loader_near X Q 45 j v σ) (⟨(am_v2_of (fun t x1 σ h => am_tk (fun e => by subst e; exact fun h => h) h)), ⟨(am_v4_of (fun t x1 x3 x4 σ h => am_tk (fun e => by subst e; exact fun h => h) h)), ⟨(am_v3_of (fun t x1 x4 σ h => am_tk (fun e => by subst e; exact fun h => h) h)), ⟨(am_v4_of (fun t x1 x3 x4 σ h => am_tk (fun e => by subst e; exact fun h => h) h)), trivial⟩⟩⟩⟩)
set_option maxRecDepth 100000 in
theorem S_Loader_near (l : Launch) (w : AW) : am_S l w GR a_Loader_near := am_sound (rt := 0) (cal := k_Loader_near) 121 y_Loader_near prog_3_method_10_code 5 (Option.some Jvm.ClassFile.FieldType.int) [2, 1] false { frames := 0, cells := 0, slots := 0, locals := 0 } B_Loader_near "LinkHouse$Loader" c_Loader_near m_Loader_near 45 ms_Loader_near (by decide +kernel) rfl rfl (fun _ h => absurd h List.not_mem_nil) s_Loader_near h_Loader_near
set_option maxRecDepth 100000 in
theorem of_Loader_near {Q : Int → AMem → Prop} {x1 : Int} {σ : AMem} (h : ∀ X : Nat → List Int → AMem → Prop, (∀ (x1 : Int) (σ : AMem), B_Loader_near_0 X Q x1 σ → X 0 [2, x1] σ) → (∀ (x1 x3 x4 : Int) (σ : AMem), B_Loader_near_1 X Q x1 x3 x4 σ → X 1 [2, x1, x3, x4] σ) → (∀ (x1 x4 : Int) (σ : AMem), B_Loader_near_2 X Q x1 x4 σ → X 2 [2, x1, x4] σ) → (∀ (x1 x3 x4 : Int) (σ : AMem), B_Loader_near_3 X Q x1 x3 x4 σ → X 3 [2, x1, x3, x4] σ) → X 0 [2, x1] σ) : T_Loader_near [2, x1] σ Q := fun X hX => h X (fun x1 σ h => hX 0 [2, x1] σ h) (fun x1 x3 x4 σ h => hX 1 [2, x1, x3, x4] σ h) (fun x1 x4 σ h => hX 2 [2, x1, x4] σ h) (fun x1 x3 x4 σ h => hX 3 [2, x1, x3, x4] σ h)
def c_Loader_name : List aE := [(0, 1, .aload_n 0, 1, 0, 0, []), (1, 0, .getfield 49, 3, 1, 16, [2, 0, 54]), (4, 0, .bipush 20, 2, 0, 0, []), (6, 0, .iload_n 1, 1, 0, 0, []), (7, 0, .imul, 1, 0, 0, []), (8, 0, .aload_n 2, 1, 0, 0, []), (9, 0, .iconst 0, 1, 0, 0, []), (10, 0, .aload_n 0, 1, 0, 0, []), (11, 0, .getfield 44, 3, 1, 15, [2, 0, 53]), (14, 0, .iload_n 1, 1, 0, 0, []), (15, 0, .iaload, 1, 0, 0, []), (16, 0, .invokestatic 146, 3, 9999, 0, [5009]), (19, 0, .aload_n 0, 1, 0, 0, []), (20, 0, .getfield 44, 3, 1, 15, [2, 0, 53]), (23, 0, .iload_n 1, 1, 0, 0, []), (24, 0, .iaload, 1, 0, 0, []), (25, 0, .ireturn, 1, 0, 0, [])]
def m_Loader_name : List aT := [(0, [(0, 2), (1, 0), (2, 2)], [])]
def B_Loader_name_0 (X : Nat → List Int → AMem → Prop) (Q : Int → AMem → Prop) (x1 x2 : Int) (σ : AMem) : Prop :=
  am_r32 (20 * x1) ∧ 0 ≤ x1 ∧ x1 < 2731 ∧ (if ly_k x2 = 2 then 0 ≤ (20 * x1) ∧ (0 : Int) ≤ 0 ∧ 0 ≤ (σ 13 x1) ∧ (20 * x1) + (σ 13 x1) ≤ 54620 ∧ 0 + (σ 13 x1) ≤ ly_l x2 ∧ am_let (am_cp σ 14 (20 * x1) x2 0 (σ 13 x1)) (fun σ1 => 0 ≤ x1 ∧ x1 < 2731 ∧ Q (σ1 13 x1) σ1) else False)
def B_Loader_name : (Nat → List Int → AMem → Prop) → (Int → AMem → Prop) → Nat → List Int → AMem → Prop := fun X Q j v σ => am_sel [(am_v3 (fun t x1 x2 σ => if t = 2 then B_Loader_name_0 X Q x1 x2 σ else False))] j v σ
def T_Loader_name : List Int → AMem → (Int → AMem → Prop) → Prop := am_T B_Loader_name
abbrev y_Loader_name : MethodName := ⟨"LinkHouse$Loader", "name", "(I[B)I"⟩
def a_Loader_name : AC := (122, (y_Loader_name, prog_3_method_11_code, 3, (Option.some Jvm.ClassFile.FieldType.int)), [2, 0, 2], 0, false, { frames := 1, cells := 0, slots := 0, locals := 34 }, T_Loader_name)
set_option maxRecDepth 100000 in
theorem ms_Loader_name : am_MSp a_Loader_name := am_ms_v 5008 2 5006 5007 1 rfl (by decide +kernel)
abbrev k_Loader_name : List AC := []
set_option maxRecDepth 100000 in
theorem s_Loader_name : (am_chkR { frames := 1, cells := 0, slots := 0, locals := 34 } k_Loader_name && am_chkN c_Loader_name { frames := 1, cells := 0, slots := 0, locals := 34 } && c_Loader_name.all (am_chk "LinkHouse$Loader" prog_3_method_11_code 3 (Option.some Jvm.ClassFile.FieldType.int) k_Loader_name) && c_Loader_name.all (am_chkL m_Loader_name) && decide (m_Loader_name[0]? = some (0, am_argp 0 [2, 0, 2], [])) && decide (am_argn [2, 0, 2] ≤ 3)) = true := by decide +kernel
set_option maxHeartbeats 150000 in
set_option maxRecDepth 100000 in
theorem h_Loader_name : ∀ X Q j v σ, B_Loader_name X Q j v σ → am_at GR k_Loader_name c_Loader_name m_Loader_name X Q 22 j v σ := fun X Q => am_sel_all (P := fun j v σ => am_at GR k_Loader_name c_Loader_name m_Loader_name X Q 22 j v σ) (⟨(am_v3_of (fun t x1 x2 σ h => am_tk (fun e => by subst e; exact fun h => h) h)), trivial⟩)
set_option maxRecDepth 100000 in
theorem S_Loader_name (l : Launch) (w : AW) : am_S l w GR a_Loader_name := am_sound (rt := 0) (cal := k_Loader_name) 122 y_Loader_name prog_3_method_11_code 3 (Option.some Jvm.ClassFile.FieldType.int) [2, 0, 2] false { frames := 1, cells := 0, slots := 0, locals := 34 } B_Loader_name "LinkHouse$Loader" c_Loader_name m_Loader_name 22 ms_Loader_name (by decide +kernel) rfl rfl (fun _ h => absurd h List.not_mem_nil) s_Loader_name h_Loader_name
set_option maxRecDepth 100000 in
theorem of_Loader_name {Q : Int → AMem → Prop} {x1 x2 : Int} {σ : AMem} (h : ∀ X : Nat → List Int → AMem → Prop, (∀ (x1 x2 : Int) (σ : AMem), B_Loader_name_0 X Q x1 x2 σ → X 0 [2, x1, x2] σ) → X 0 [2, x1, x2] σ) : T_Loader_name [2, x1, x2] σ Q := fun X hX => h X (fun x1 x2 σ h => hX 0 [2, x1, x2] σ h)
set_option maxRecDepth 100000 in
theorem iff_Loader_name {Q : Int → AMem → Prop} {X : Nat → List Int → AMem → Prop} {x1 x2 : Int} {σ : AMem} : T_Loader_name [2, x1, x2] σ Q ↔ B_Loader_name_0 X Q x1 x2 σ := ⟨fun h => h (fun j v σ => B_Loader_name X Q j v σ) (fun _ _ _ q => q), fun h _ hX => hX 0 _ _ h⟩
def c_LinkHouse_near : List aE := [(0, 1, .aload_n 0, 1, 0, 0, []), (1, 0, .getfield 12, 3, 0, 0, [2, 0, 1213]), (4, 0, .lload_n 1, 1, 0, 0, []), (5, 0, .invokevirtual 888, 3, 120, 1, [4237]), (8, 0, .ifCond .ge 7, 3, 0, 0, []), (11, 0, .iconst (-1), 1, 0, 0, []), (12, 0, .goto 11, 3, 0, 0, []), (15, 0, .aload_n 0, 1, 0, 0, []), (16, 0, .getfield 12, 3, 0, 0, [2, 0, 1213]), (19, 0, .lload_n 1, 1, 0, 0, []), (20, 0, .invokevirtual 891, 3, 121, 1, [5001]), (23, 2, .istore_n 3, 1, 0, 0, []), (24, 0, .iload_n 3, 1, 0, 0, []), (25, 0, .ifCond .ge 7, 3, 0, 0, []), (28, 0, .ldc2_w 551, 3, 1, 1, [4028]), (31, 0, .lreturn, 1, 0, 0, []), (32, 0, .aload_n 0, 1, 0, 0, []), (33, 0, .aload_n 0, 1, 0, 0, []), (34, 0, .getfield 12, 3, 0, 0, [2, 0, 1213]), (37, 0, .iload_n 3, 1, 0, 0, []), (38, 0, .aload_n 0, 1, 0, 0, []), (39, 0, .getfield 37, 3, 0, 6, [2, 0, 1219]), (42, 0, .invokevirtual 894, 3, 122, 1, [5005]), (45, 0, .putfield 204, 3, 0, 20, [0, 0, 1233]), (48, 0, .lload_n 1, 1, 0, 0, []), (49, 0, .aload_n 0, 1, 0, 0, []), (50, 0, .getfield 12, 3, 0, 0, [2, 0, 1213]), (53, 0, .getfield 898, 3, 1, 14, [2, 0, 52]), (56, 0, .iload_n 3, 1, 0, 0, []), (57, 0, .laload, 1, 0, 0, []), (58, 0, .lsub, 1, 0, 0, []), (59, 0, .lreturn, 1, 0, 0, [])]
def m_LinkHouse_near : List aT := [(0, [(0, 2), (1, 1)], []), (23, [(0, 2), (1, 1)], [0])]
def B_LinkHouse_near_0 (X : Nat → List Int → AMem → Prop) (Q : Int → AMem → Prop) (x1 : Int) (σ : AMem) : Prop :=
  T_Loader_find [2, x1] σ (fun r1 σ2 => (if r1 < 0 then
  X 1 [1, x1, (-1)] σ2
  else
  T_Loader_near [2, x1] σ2 (fun r3 σ4 => X 1 [1, x1, r3] σ4)))
def B_LinkHouse_near_1 (X : Nat → List Int → AMem → Prop) (Q : Int → AMem → Prop) (x1 s0 : Int) (σ : AMem) : Prop :=
  (if s0 < 0 then
  Q (-1) σ
  else
  T_Loader_name [2, s0, (σ 1 6)] σ (fun r1 σ2 => am_let (am_upd σ2 1 20 r1) (fun σ3 => 0 ≤ s0 ∧ s0 < 2731 ∧ Q (w64 (x1 - (σ3 12 s0))) σ3)))
def B_LinkHouse_near : (Nat → List Int → AMem → Prop) → (Int → AMem → Prop) → Nat → List Int → AMem → Prop := fun X Q j v σ => am_sel [(am_v2 (fun t x1 σ => if t = 1 then B_LinkHouse_near_0 X Q x1 σ else False)), (am_v3 (fun t x1 s0 σ => if t = 1 then B_LinkHouse_near_1 X Q x1 s0 σ else False))] j v σ
def T_LinkHouse_near : List Int → AMem → (Int → AMem → Prop) → Prop := am_T B_LinkHouse_near
abbrev y_LinkHouse_near : MethodName := ⟨"LinkHouse", "near", "(J)J"⟩
def a_LinkHouse_near : AC := (123, (y_LinkHouse_near, prog_1_method_90_code, 4, (Option.some Jvm.ClassFile.FieldType.long)), [2, 1], 1, false, { frames := 2, cells := 0, slots := 0, locals := 64 }, T_LinkHouse_near)
set_option maxRecDepth 100000 in
theorem ms_LinkHouse_near : am_MSp a_LinkHouse_near := am_ms_v 4236 1 4234 4235 0 rfl (by decide +kernel)
abbrev k_LinkHouse_near : List AC := [a_Loader_find, a_Loader_near, a_Loader_name]
set_option maxRecDepth 100000 in
theorem s_LinkHouse_near : (am_chkR { frames := 2, cells := 0, slots := 0, locals := 64 } k_LinkHouse_near && am_chkN c_LinkHouse_near { frames := 2, cells := 0, slots := 0, locals := 64 } && c_LinkHouse_near.all (am_chk "LinkHouse" prog_1_method_90_code 4 (Option.some Jvm.ClassFile.FieldType.long) k_LinkHouse_near) && c_LinkHouse_near.all (am_chkL m_LinkHouse_near) && decide (m_LinkHouse_near[0]? = some (0, am_argp 0 [2, 1], [])) && decide (am_argn [2, 1] ≤ 4)) = true := by decide +kernel
set_option maxHeartbeats 150000 in
set_option maxRecDepth 100000 in
theorem h_LinkHouse_near : ∀ X Q j v σ, B_LinkHouse_near X Q j v σ → am_at GR k_LinkHouse_near c_LinkHouse_near m_LinkHouse_near X Q 37 j v σ := fun X Q => am_sel_all (P := fun j v σ => am_at GR k_LinkHouse_near c_LinkHouse_near m_LinkHouse_near X Q 37 j v σ) (⟨(am_v2_of (fun t x1 σ h => am_tk (fun e => by subst e; exact fun h => h) h)), ⟨(am_v3_of (fun t x1 s0 σ h => am_tk (fun e => by subst e; exact fun h => h) h)), trivial⟩⟩)
set_option maxRecDepth 100000 in
theorem S_LinkHouse_near (l : Launch) (w : AW) : am_S l w GR a_LinkHouse_near := am_sound (rt := 1) (cal := k_LinkHouse_near) 123 y_LinkHouse_near prog_1_method_90_code 4 (Option.some Jvm.ClassFile.FieldType.long) [2, 1] false { frames := 2, cells := 0, slots := 0, locals := 64 } B_LinkHouse_near "LinkHouse" c_LinkHouse_near m_LinkHouse_near 37 ms_LinkHouse_near (by decide +kernel) rfl rfl (am_cal (S_Loader_find l w) (am_cal (S_Loader_near l w) (am_cal (S_Loader_name l w) (fun _ h => absurd h List.not_mem_nil)))) s_LinkHouse_near h_LinkHouse_near
set_option maxRecDepth 100000 in
theorem of_LinkHouse_near {Q : Int → AMem → Prop} {x1 : Int} {σ : AMem} (h : ∀ X : Nat → List Int → AMem → Prop, (∀ (x1 : Int) (σ : AMem), B_LinkHouse_near_0 X Q x1 σ → X 0 [1, x1] σ) → (∀ (x1 s0 : Int) (σ : AMem), B_LinkHouse_near_1 X Q x1 s0 σ → X 1 [1, x1, s0] σ) → X 0 [1, x1] σ) : T_LinkHouse_near [1, x1] σ Q := fun X hX => h X (fun x1 σ h => hX 0 [1, x1] σ h) (fun x1 s0 σ h => hX 1 [1, x1, s0] σ h)
def c_Loader_number : List aE := [(0, 1, .lconst 0, 1, 0, 0, []), (1, 0, .lstore 4, 2, 0, 0, []), (3, 0, .iload_n 3, 1, 0, 0, []), (4, 0, .iconst 1, 1, 0, 0, []), (5, 0, .isub, 1, 0, 0, []), (6, 0, .istore 6, 2, 0, 0, []), (8, 2, .iload 6, 2, 0, 0, []), (10, 0, .ifCond .lt 32, 3, 0, 0, []), (13, 0, .lload 4, 2, 0, 0, []), (15, 0, .bipush 8, 2, 0, 0, []), (17, 0, .lshl, 1, 0, 0, []), (18, 0, .aload_n 0, 1, 0, 0, []), (19, 0, .getfield 52, 3, 1, 13, [2, 0, 50]), (22, 0, .lload_n 1, 1, 0, 0, []), (23, 0, .l2i, 1, 0, 0, []), (24, 0, .iload 6, 2, 0, 0, []), (26, 0, .iadd, 1, 0, 0, []), (27, 0, .baload, 1, 2, 0, []), (28, 0, .i2l, 1, 0, 0, []), (29, 0, .ldc2_w 55, 3, 255, 0, [5022]), (32, 0, .land, 1, 0, 0, []), (33, 0, .lor, 1, 0, 0, []), (34, 0, .lstore 4, 2, 0, 0, []), (36, 0, .iinc 6 (-1), 3, 0, 0, []), (39, 0, .goto (-31), 3, 0, 0, []), (42, 0, .lload 4, 2, 0, 0, []), (44, 0, .lreturn, 1, 0, 0, [])]
def m_Loader_number : List aT := [(0, [(0, 2), (1, 1), (3, 0)], []), (8, [(0, 2), (1, 1), (4, 1), (6, 0)], [])]
def B_Loader_number_0 (X : Nat → List Int → AMem → Prop) (Q : Int → AMem → Prop) (x1 x3 : Int) (σ : AMem) : Prop :=
  am_r32 (x3 - 1) ∧ X 1 [2, x1, 0, (x3 - 1)] σ
def B_Loader_number_1 (X : Nat → List Int → AMem → Prop) (Q : Int → AMem → Prop) (x1 x4 x6 : Int) (σ : AMem) : Prop :=
  (if x6 < 0 then
  Q x4 σ
  else
  am_r32 ((w32 x1) + x6) ∧ (if ly_k (σ 2 13) = 2 then 0 ≤ ((w32 x1) + x6) ∧ ((w32 x1) + x6) < ly_l (σ 2 13) ∧ am_let (l_or (l_shl x4 8) (l_and (σ (σ 2 13) ((w32 x1) + x6)) 255)) (fun y1 => am_r32 (x6 + (-1)) ∧ X 1 [2, x1, y1, (x6 + (-1))] σ) else False))
def B_Loader_number : (Nat → List Int → AMem → Prop) → (Int → AMem → Prop) → Nat → List Int → AMem → Prop := fun X Q j v σ => am_sel [(am_v3 (fun t x1 x3 σ => if t = 2 then B_Loader_number_0 X Q x1 x3 σ else False)), (am_v4 (fun t x1 x4 x6 σ => if t = 2 then B_Loader_number_1 X Q x1 x4 x6 σ else False))] j v σ
def T_Loader_number : List Int → AMem → (Int → AMem → Prop) → Prop := am_T B_Loader_number
abbrev y_Loader_number : MethodName := ⟨"LinkHouse$Loader", "number", "(JI)J"⟩
def a_Loader_number : AC := (124, (y_Loader_number, prog_3_method_2_code, 7, (Option.some Jvm.ClassFile.FieldType.long)), [2, 1, 0], 1, false, { frames := 0, cells := 0, slots := 0, locals := 0 }, T_Loader_number)
set_option maxRecDepth 100000 in
theorem ms_Loader_number : am_MSp a_Loader_number := am_ms_v 5021 2 5020 104002 1 rfl (by decide +kernel)
abbrev k_Loader_number : List AC := []
set_option maxRecDepth 100000 in
theorem s_Loader_number : (am_chkR { frames := 0, cells := 0, slots := 0, locals := 0 } k_Loader_number && am_chkN c_Loader_number { frames := 0, cells := 0, slots := 0, locals := 0 } && c_Loader_number.all (am_chk "LinkHouse$Loader" prog_3_method_2_code 7 (Option.some Jvm.ClassFile.FieldType.long) k_Loader_number) && c_Loader_number.all (am_chkL m_Loader_number) && decide (m_Loader_number[0]? = some (0, am_argp 0 [2, 1, 0], [])) && decide (am_argn [2, 1, 0] ≤ 7)) = true := by decide +kernel
set_option maxHeartbeats 150000 in
set_option maxRecDepth 100000 in
theorem h_Loader_number : ∀ X Q j v σ, B_Loader_number X Q j v σ → am_at GR k_Loader_number c_Loader_number m_Loader_number X Q 32 j v σ := fun X Q => am_sel_all (P := fun j v σ => am_at GR k_Loader_number c_Loader_number m_Loader_number X Q 32 j v σ) (⟨(am_v3_of (fun t x1 x3 σ h => am_tk (fun e => by subst e; exact fun h => h) h)), ⟨(am_v4_of (fun t x1 x4 x6 σ h => am_tk (fun e => by subst e; exact fun h => h) h)), trivial⟩⟩)
set_option maxRecDepth 100000 in
theorem S_Loader_number (l : Launch) (w : AW) : am_S l w GR a_Loader_number := am_sound (rt := 1) (cal := k_Loader_number) 124 y_Loader_number prog_3_method_2_code 7 (Option.some Jvm.ClassFile.FieldType.long) [2, 1, 0] false { frames := 0, cells := 0, slots := 0, locals := 0 } B_Loader_number "LinkHouse$Loader" c_Loader_number m_Loader_number 32 ms_Loader_number (by decide +kernel) rfl rfl (fun _ h => absurd h List.not_mem_nil) s_Loader_number h_Loader_number
set_option maxRecDepth 100000 in
theorem of_Loader_number {Q : Int → AMem → Prop} {x1 x3 : Int} {σ : AMem} (h : ∀ X : Nat → List Int → AMem → Prop, (∀ (x1 x3 : Int) (σ : AMem), B_Loader_number_0 X Q x1 x3 σ → X 0 [2, x1, x3] σ) → (∀ (x1 x4 x6 : Int) (σ : AMem), B_Loader_number_1 X Q x1 x4 x6 σ → X 1 [2, x1, x4, x6] σ) → X 0 [2, x1, x3] σ) : T_Loader_number [2, x1, x3] σ Q := fun X hX => h X (fun x1 x3 σ h => hX 0 [2, x1, x3] σ h) (fun x1 x4 x6 σ h => hX 1 [2, x1, x4, x6] σ h)
def c_Loader_lies : List aE := [(0, 1, .lload_n 1, 1, 0, 0, []), (1, 0, .lconst 0, 1, 0, 0, []), (2, 0, .lcmp, 1, 0, 0, []), (3, 0, .ifCond .lt 35, 3, 0, 0, []), (6, 0, .lload_n 3, 1, 0, 0, []), (7, 0, .lconst 0, 1, 0, 0, []), (8, 0, .lcmp, 1, 0, 0, []), (9, 0, .ifCond .lt 29, 3, 0, 0, []), (12, 0, .lload_n 1, 1, 0, 0, []), (13, 0, .aload_n 0, 1, 0, 0, []), (14, 0, .getfield 57, 3, 1, 10, [0, 0, 46]), (17, 0, .i2l, 1, 0, 0, []), (18, 0, .lcmp, 1, 0, 0, []), (19, 0, .ifCond .gt 19, 3, 0, 0, []), (22, 0, .lload_n 3, 1, 0, 0, []), (23, 0, .aload_n 0, 1, 0, 0, []), (24, 0, .getfield 57, 3, 1, 10, [0, 0, 46]), (27, 0, .i2l, 1, 0, 0, []), (28, 0, .lload_n 1, 1, 0, 0, []), (29, 0, .lsub, 1, 0, 0, []), (30, 0, .lcmp, 1, 0, 0, []), (31, 0, .ifCond .gt 7, 3, 0, 0, []), (34, 0, .iconst 1, 1, 0, 0, []), (35, 0, .goto 4, 3, 0, 0, []), (38, 0, .iconst 0, 1, 0, 0, []), (39, 0, .ireturn, 1, 1, 0, [])]
def m_Loader_lies : List aT := [(0, [(0, 2), (1, 1), (3, 1)], [])]
def B_Loader_lies_0 (X : Nat → List Int → AMem → Prop) (Q : Int → AMem → Prop) (x1 x3 : Int) (σ : AMem) : Prop :=
  (if x1 < 0 then
  Q 0 σ
  else
  (if x3 < 0 then
    Q 0 σ
    else
    (if (σ 2 10) < x1 then
      Q 0 σ
      else
      (if (w64 ((σ 2 10) - x1)) < x3 then
        Q 0 σ
        else
        Q 1 σ))))
def B_Loader_lies : (Nat → List Int → AMem → Prop) → (Int → AMem → Prop) → Nat → List Int → AMem → Prop := fun X Q j v σ => am_sel [(am_v3 (fun t x1 x3 σ => if t = 2 then B_Loader_lies_0 X Q x1 x3 σ else False))] j v σ
def T_Loader_lies : List Int → AMem → (Int → AMem → Prop) → Prop := am_T B_Loader_lies
abbrev y_Loader_lies : MethodName := ⟨"LinkHouse$Loader", "lies", "(JJ)Z"⟩
def a_Loader_lies : AC := (125, (y_Loader_lies, prog_3_method_3_code, 5, (Option.some Jvm.ClassFile.FieldType.boolean)), [2, 1, 1], 0, false, { frames := 0, cells := 0, slots := 0, locals := 0 }, T_Loader_lies)
set_option maxRecDepth 100000 in
theorem ms_Loader_lies : am_MSp a_Loader_lies := am_ms_v 5036 2 5035 104003 1 rfl (by decide +kernel)
abbrev k_Loader_lies : List AC := []
set_option maxRecDepth 100000 in
theorem s_Loader_lies : (am_chkR { frames := 0, cells := 0, slots := 0, locals := 0 } k_Loader_lies && am_chkN c_Loader_lies { frames := 0, cells := 0, slots := 0, locals := 0 } && c_Loader_lies.all (am_chk "LinkHouse$Loader" prog_3_method_3_code 5 (Option.some Jvm.ClassFile.FieldType.boolean) k_Loader_lies) && c_Loader_lies.all (am_chkL m_Loader_lies) && decide (m_Loader_lies[0]? = some (0, am_argp 0 [2, 1, 1], [])) && decide (am_argn [2, 1, 1] ≤ 5)) = true := by decide +kernel
set_option maxHeartbeats 150000 in
set_option maxRecDepth 100000 in
theorem h_Loader_lies : ∀ X Q j v σ, B_Loader_lies X Q j v σ → am_at GR k_Loader_lies c_Loader_lies m_Loader_lies X Q 31 j v σ := fun X Q => am_sel_all (P := fun j v σ => am_at GR k_Loader_lies c_Loader_lies m_Loader_lies X Q 31 j v σ) (⟨(am_v3_of (fun t x1 x3 σ h => am_tk (fun e => by subst e; exact fun h => h) h)), trivial⟩)
set_option maxRecDepth 100000 in
theorem S_Loader_lies (l : Launch) (w : AW) : am_S l w GR a_Loader_lies := am_sound (rt := 0) (cal := k_Loader_lies) 125 y_Loader_lies prog_3_method_3_code 5 (Option.some Jvm.ClassFile.FieldType.boolean) [2, 1, 1] false { frames := 0, cells := 0, slots := 0, locals := 0 } B_Loader_lies "LinkHouse$Loader" c_Loader_lies m_Loader_lies 31 ms_Loader_lies (by decide +kernel) rfl rfl (fun _ h => absurd h List.not_mem_nil) s_Loader_lies h_Loader_lies
set_option maxRecDepth 100000 in
theorem of_Loader_lies {Q : Int → AMem → Prop} {x1 x3 : Int} {σ : AMem} (h : ∀ X : Nat → List Int → AMem → Prop, (∀ (x1 x3 : Int) (σ : AMem), B_Loader_lies_0 X Q x1 x3 σ → X 0 [2, x1, x3] σ) → X 0 [2, x1, x3] σ) : T_Loader_lies [2, x1, x3] σ Q := fun X hX => h X (fun x1 x3 σ h => hX 0 [2, x1, x3] σ h)
set_option maxRecDepth 100000 in
theorem iff_Loader_lies {Q : Int → AMem → Prop} {X : Nat → List Int → AMem → Prop} {x1 x3 : Int} {σ : AMem} : T_Loader_lies [2, x1, x3] σ Q ↔ B_Loader_lies_0 X Q x1 x3 σ := ⟨fun h => h (fun j v σ => B_Loader_lies X Q j v σ) (fun _ _ _ q => q), fun h _ hX => hX 0 _ _ h⟩
