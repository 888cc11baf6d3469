/-! methods: printed by gen/all.py -/
def c_Model_sixteen : List aE := [(0, 1, .iconst 0, 1, 0, 0, []), (1, 0, .istore 4, 2, 0, 0, []), (3, 2, .iload 4, 2, 0, 0, []), (5, 0, .bipush 16, 2, 0, 0, []), (7, 0, .if_icmp .ge 58, 3, 0, 0, []), (10, 0, .lload_n 2, 1, 0, 0, []), (11, 0, .bipush 60, 2, 0, 0, []), (13, 0, .iconst 4, 1, 0, 0, []), (14, 0, .iload 4, 2, 0, 0, []), (16, 0, .imul, 1, 0, 0, []), (17, 0, .isub, 1, 0, 0, []), (18, 0, .lushr, 1, 0, 0, []), (19, 0, .ldc2_w 902, 3, 15, 0, [11001]), (22, 0, .land, 1, 0, 0, []), (23, 0, .l2i, 1, 0, 0, []), (24, 0, .istore 5, 2, 0, 0, []), (26, 0, .aload_n 0, 1, 0, 0, []), (27, 0, .getfield 14, 3, 8, 3, [2, 0, 6192]), (30, 0, .iload_n 1, 1, 0, 0, []), (31, 0, .iload 4, 2, 0, 0, []), (33, 0, .iadd, 1, 0, 0, []), (34, 0, .iload 5, 2, 0, 0, []), (36, 0, .bipush 10, 2, 0, 0, []), (38, 0, .if_icmp .ge 11, 3, 0, 0, []), (41, 0, .bipush 48, 2, 0, 0, []), (43, 0, .iload 5, 2, 0, 0, []), (45, 0, .iadd, 1, 0, 0, []), (46, 0, .goto 11, 3, 0, 0, []), (49, 0, .bipush 97, 2, 0, 0, []), (51, 0, .iload 5, 2, 0, 0, []), (53, 0, .iadd, 1, 0, 0, []), (54, 0, .bipush 10, 2, 0, 0, []), (56, 0, .isub, 1, 0, 0, []), (57, 3, .i2b, 1, 0, 0, []), (58, 0, .bastore, 1, 2, 0, []), (59, 0, .iinc 4 1, 3, 0, 0, []), (62, 0, .goto (-59), 3, 0, 0, []), (65, 0, .return_, 1, 0, 0, [])]
def m_Model_sixteen : List aT := [(0, [(0, 2), (1, 0), (2, 1)], []), (3, [(0, 2), (1, 0), (2, 1), (4, 0)], []), (57, [(0, 2), (1, 0), (2, 1), (4, 0)], [0, 0, 2])]
def B_Model_sixteen_0 (X : Nat → List Int → AMem → Prop) (Q : Int → AMem → Prop) (x1 x2 : Int) (σ : AMem) : Prop :=
  X 1 [9790, x1, x2, 0] σ
def B_Model_sixteen_1 (X : Nat → List Int → AMem → Prop) (Q : Int → AMem → Prop) (x1 x2 x4 : Int) (σ : AMem) : Prop :=
  (if x4 < 16 then
  am_r32 (4 * x4) ∧ am_r32 (60 - (4 * x4)) ∧ am_let (w32 (l_and (l_ushr x2 (60 - (4 * x4))) 15)) (fun y1 => am_r32 (x1 + x4) ∧ (if y1 < 10 then
    am_r32 (48 + y1) ∧ X 2 [9790, x1, x2, x4, (48 + y1), (x1 + x4), 9792] σ
    else
    am_r32 (97 + y1) ∧ am_r32 ((97 + y1) - 10) ∧ X 2 [9790, x1, x2, x4, ((97 + y1) - 10), (x1 + x4), 9792] σ))
  else
  Q 0 σ)
def B_Model_sixteen_2 (X : Nat → List Int → AMem → Prop) (Q : Int → AMem → Prop) (x1 x2 x4 s0 s1 s2 : Int) (σ : AMem) : Prop :=
  (if ly_k s2 = 2 then 0 ≤ s1 ∧ s1 < ly_l s2 ∧ am_let (am_upd σ s2 s1 (w8 (w8 s0))) (fun σ1 => am_r32 (x4 + 1) ∧ X 1 [9790, x1, x2, (x4 + 1)] σ1) else False)
def B_Model_sixteen : (Nat → List Int → AMem → Prop) → (Int → AMem → Prop) → Nat → List Int → AMem → Prop := fun X Q j v σ => am_sel [(am_v3 (fun t x1 x2 σ => if t = 9790 then B_Model_sixteen_0 X Q x1 x2 σ else False)), (am_v4 (fun t x1 x2 x4 σ => if t = 9790 then B_Model_sixteen_1 X Q x1 x2 x4 σ else False)), (am_v7 (fun t x1 x2 x4 s0 s1 s2 σ => if t = 9790 then B_Model_sixteen_2 X Q x1 x2 x4 s0 s1 s2 σ else False))] j v σ
def T_Model_sixteen : List Int → AMem → (Int → AMem → Prop) → Prop := am_T B_Model_sixteen
abbrev y_Model_sixteen : MethodName := ⟨"LinkHouseModel", "sixteen", "(IJ)V"⟩
def a_Model_sixteen : AC := (325, (y_Model_sixteen, prog_10_method_147_code, 6, (Option.none : Option Jvm.ClassFile.FieldType)), [2, 0, 1], 3, false, { frames := 0, cells := 0, slots := 0, locals := 0 }, T_Model_sixteen)
set_option maxRecDepth 100000 in
theorem ms_Model_sixteen : am_MSp a_Model_sixteen := am_ms_v 11000 9 10239 113009 8 rfl (by decide +kernel)
abbrev k_Model_sixteen : List AC := []
set_option maxRecDepth 100000 in
theorem s_Model_sixteen : (am_chkR { frames := 0, cells := 0, slots := 0, locals := 0 } k_Model_sixteen && am_chkN c_Model_sixteen { frames := 0, cells := 0, slots := 0, locals := 0 } && c_Model_sixteen.all (am_chk "LinkHouseModel" prog_10_method_147_code 6 (Option.none : Option Jvm.ClassFile.FieldType) k_Model_sixteen) && c_Model_sixteen.all (am_chkL m_Model_sixteen) && decide (m_Model_sixteen[0]? = some (0, am_argp 0 [2, 0, 1], [])) && decide (am_argn [2, 0, 1] ≤ 6)) = true := by decide +kernel
set_option maxHeartbeats 150000 in
set_option maxRecDepth 100000 in
theorem h_Model_sixteen : ∀ X Q j v σ, B_Model_sixteen X Q j v σ → am_at GR k_Model_sixteen c_Model_sixteen m_Model_sixteen X Q 43 j v σ := fun X Q => am_sel_all (P := fun j v σ => am_at GR k_Model_sixteen c_Model_sixteen m_Model_sixteen X Q 43 j v σ) (⟨(am_v3_of (fun t x1 x2 σ h => am_tk (fun e => by subst e; exact fun h => h) h)), ⟨(am_v4_of (fun t x1 x2 x4 σ h => am_tk (fun e => by subst e; exact fun h => h) h)), ⟨(am_v7_of (fun t x1 x2 x4 s0 s1 s2 σ h => am_tk (fun e => by subst e; exact fun h => h) h)), trivial⟩⟩⟩)
set_option maxRecDepth 100000 in
theorem S_Model_sixteen (l : Launch) (w : AW) : am_S l w GR a_Model_sixteen := am_sound (rt := 3) (cal := k_Model_sixteen) 325 y_Model_sixteen prog_10_method_147_code 6 (Option.none : Option Jvm.ClassFile.FieldType) [2, 0, 1] false { frames := 0, cells := 0, slots := 0, locals := 0 } B_Model_sixteen "LinkHouseModel" c_Model_sixteen m_Model_sixteen 43 ms_Model_sixteen (by decide +kernel) rfl rfl (fun _ h => absurd h List.not_mem_nil) s_Model_sixteen h_Model_sixteen
set_option maxRecDepth 100000 in
theorem of_Model_sixteen {Q : Int → AMem → Prop} {x1 x2 : Int} {σ : AMem} (h : ∀ X : Nat → List Int → AMem → Prop, (∀ (x1 x2 : Int) (σ : AMem), B_Model_sixteen_0 X Q x1 x2 σ → X 0 [9790, x1, x2] σ) → (∀ (x1 x2 x4 : Int) (σ : AMem), B_Model_sixteen_1 X Q x1 x2 x4 σ → X 1 [9790, x1, x2, x4] σ) → (∀ (x1 x2 x4 s0 s1 s2 : Int) (σ : AMem), B_Model_sixteen_2 X Q x1 x2 x4 s0 s1 s2 σ → X 2 [9790, x1, x2, x4, s0, s1, s2] σ) → X 0 [9790, x1, x2] σ) : T_Model_sixteen [9790, x1, x2] σ Q := fun X hX => h X (fun x1 x2 σ h => hX 0 [9790, x1, x2] σ h) (fun x1 x2 x4 σ h => hX 1 [9790, x1, x2, x4] σ h) (fun x1 x2 x4 s0 s1 s2 σ h => hX 2 [9790, x1, x2, x4, s0, s1, s2] σ h)
def c_Model_letterOf : List aE := [(0, 1, .aload_n 0, 1, 0, 0, []), (1, 0, .iload_n 1, 1, 0, 0, []), (2, 0, .iload_n 2, 1, 0, 0, []), (3, 0, .invokevirtual 372, 3, 200, 8, [8205]), (6, 0, .istore_n 3, 1, 0, 0, []), (7, 0, .aload_n 0, 1, 0, 0, []), (8, 0, .iload_n 1, 1, 0, 0, []), (9, 0, .iload_n 2, 1, 0, 0, []), (10, 0, .invokevirtual 375, 3, 201, 8, [8213]), (13, 0, .iconst 2, 1, 0, 0, []), (14, 0, .if_icmp .ne 7, 3, 0, 0, []), (17, 0, .iconst 1, 1, 0, 0, []), (18, 0, .goto 4, 3, 0, 0, []), (21, 0, .iconst 0, 1, 0, 0, []), (22, 2, .istore 4, 2, 0, 0, []), (24, 0, .iload_n 3, 1, 0, 0, []), (25, 0, .ifCond .ne 16, 3, 0, 0, []), (28, 0, .iload 4, 2, 0, 0, []), (30, 0, .ifCond .eq 8, 3, 0, 0, []), (33, 0, .bipush 119, 2, 0, 0, []), (35, 0, .goto 5, 3, 0, 0, []), (38, 0, .bipush 85, 2, 0, 0, []), (40, 0, .ireturn, 1, 0, 0, []), (41, 0, .iload_n 3, 1, 0, 0, []), (42, 0, .ldc_w 379, 3, 65522, 0, [8218]), (45, 0, .if_icmp .ne 6, 3, 0, 0, []), (48, 0, .bipush 67, 2, 0, 0, []), (50, 0, .ireturn, 1, 0, 0, []), (51, 0, .iload 4, 2, 0, 0, []), (53, 0, .ifCond .eq 6, 3, 0, 0, []), (56, 0, .bipush 87, 2, 0, 0, []), (58, 0, .ireturn, 1, 0, 0, []), (59, 0, .iload_n 3, 1, 0, 0, []), (60, 0, .ldc_w 378, 3, 65521, 0, [8217]), (63, 0, .if_icmp .ne 6, 3, 0, 0, []), (66, 0, .bipush 65, 2, 0, 0, []), (68, 0, .ireturn, 1, 0, 0, []), (69, 0, .aload_n 0, 1, 0, 0, []), (70, 0, .iload_n 1, 1, 0, 0, []), (71, 0, .iload_n 3, 1, 0, 0, []), (72, 0, .invokevirtual 604, 3, 256, 8, [9192]), (75, 0, .istore 5, 2, 0, 0, []), (77, 0, .iload 5, 2, 0, 0, []), (79, 0, .ifCond .ne 8, 3, 0, 0, []), (82, 0, .bipush 84, 2, 0, 0, []), (84, 0, .goto 33, 3, 0, 0, []), (87, 0, .iload 5, 2, 0, 0, []), (89, 0, .iconst 1, 1, 0, 0, []), (90, 0, .if_icmp .ne 8, 3, 0, 0, []), (93, 0, .bipush 82, 2, 0, 0, []), (95, 0, .goto 22, 3, 0, 0, []), (98, 0, .iload 5, 2, 0, 0, []), (100, 0, .iconst 2, 1, 0, 0, []), (101, 0, .if_icmp .eq 9, 3, 0, 0, []), (104, 0, .iload 5, 2, 0, 0, []), (106, 0, .iconst 4, 1, 0, 0, []), (107, 0, .if_icmp .ne 8, 3, 0, 0, []), (110, 0, .bipush 68, 2, 0, 0, []), (112, 0, .goto 5, 3, 0, 0, []), (115, 0, .bipush 66, 2, 0, 0, []), (117, 0, .ireturn, 1, 0, 0, [])]
def m_Model_letterOf : List aT := [(0, [(0, 2), (1, 0), (2, 0)], []), (22, [(0, 2), (1, 0), (3, 0)], [0])]
def B_Model_letterOf_0 (X : Nat → List Int → AMem → Prop) (Q : Int → AMem → Prop) (x1 x2 : Int) (σ : AMem) : Prop :=
  T_Model_where [9790, x1, x2] σ (fun r1 σ2 => T_Model_bind [9790, x1, x2] σ2 (fun r3 σ4 => (if r3 = 2 then
  X 1 [9790, x1, r1, 1] σ4
  else
  X 1 [9790, x1, r1, 0] σ4)))
def B_Model_letterOf_1 (X : Nat → List Int → AMem → Prop) (Q : Int → AMem → Prop) (x1 x3 s0 : Int) (σ : AMem) : Prop :=
  (if x3 = 0 then
  (if s0 = 0 then
    Q 85 σ
    else
    Q 119 σ)
  else
  (if x3 = 65522 then
    Q 67 σ
    else
    (if s0 = 0 then
      (if x3 = 65521 then
        Q 65 σ
        else
        T_Model_group [9790, x1, x3] σ (fun r1 σ2 => (if r1 = 0 then
          Q 84 σ2
          else
          (if r1 = 1 then
            Q 82 σ2
            else
            (if r1 = 2 then
              Q 68 σ2
              else
              (if r1 = 4 then
                Q 68 σ2
                else
                Q 66 σ2))))))
      else
      Q 87 σ)))
def B_Model_letterOf : (Nat → List Int → AMem → Prop) → (Int → AMem → Prop) → Nat → List Int → AMem → Prop := fun X Q j v σ => am_sel [(am_v3 (fun t x1 x2 σ => if t = 9790 then B_Model_letterOf_0 X Q x1 x2 σ else False)), (am_v4 (fun t x1 x3 s0 σ => if t = 9790 then B_Model_letterOf_1 X Q x1 x3 s0 σ else False))] j v σ
def T_Model_letterOf : List Int → AMem → (Int → AMem → Prop) → Prop := am_T B_Model_letterOf
abbrev y_Model_letterOf : MethodName := ⟨"LinkHouseModel", "letterOf", "(II)I"⟩
def a_Model_letterOf : AC := (326, (y_Model_letterOf, prog_10_method_148_code, 6, (Option.some Jvm.ClassFile.FieldType.int)), [2, 0, 0], 0, false, { frames := 6, cells := 0, slots := 0, locals := 183 }, T_Model_letterOf)
set_option maxRecDepth 100000 in
theorem ms_Model_letterOf : am_MSp a_Model_letterOf := am_ms_v 11005 9 11004 113010 8 rfl (by decide +kernel)
abbrev k_Model_letterOf : List AC := [a_Model_where, a_Model_bind, a_Model_group]
set_option maxRecDepth 100000 in
theorem s_Model_letterOf : (am_chkR { frames := 6, cells := 0, slots := 0, locals := 183 } k_Model_letterOf && am_chkN c_Model_letterOf { frames := 6, cells := 0, slots := 0, locals := 183 } && c_Model_letterOf.all (am_chk "LinkHouseModel" prog_10_method_148_code 6 (Option.some Jvm.ClassFile.FieldType.int) k_Model_letterOf) && c_Model_letterOf.all (am_chkL m_Model_letterOf) && decide (m_Model_letterOf[0]? = some (0, am_argp 0 [2, 0, 0], [])) && decide (am_argn [2, 0, 0] ≤ 6)) = true := by decide +kernel
set_option maxHeartbeats 150000 in
set_option maxRecDepth 100000 in
theorem h_Model_letterOf : ∀ X Q j v σ, B_Model_letterOf X Q j v σ → am_at GR k_Model_letterOf c_Model_letterOf m_Model_letterOf X Q 66 j v σ := fun X Q => am_sel_all (P := fun j v σ => am_at GR k_Model_letterOf c_Model_letterOf m_Model_letterOf X Q 66 j v σ) (⟨(am_v3_of (fun t x1 x2 σ h => am_tk (fun e => by subst e; exact fun h => h) h)), ⟨(am_v4_of (fun t x1 x3 s0 σ h => am_tk (fun e => by subst e; exact fun h => h) h)), trivial⟩⟩)
set_option maxRecDepth 100000 in
theorem S_Model_letterOf (l : Launch) (w : AW) : am_S l w GR a_Model_letterOf := am_sound (rt := 0) (cal := k_Model_letterOf) 326 y_Model_letterOf prog_10_method_148_code 6 (Option.some Jvm.ClassFile.FieldType.int) [2, 0, 0] false { frames := 6, cells := 0, slots := 0, locals := 183 } B_Model_letterOf "LinkHouseModel" c_Model_letterOf m_Model_letterOf 66 ms_Model_letterOf (by decide +kernel) rfl rfl (am_cal (S_Model_where l w) (am_cal (S_Model_bind l w) (am_cal (S_Model_group l w) (fun _ h => absurd h List.not_mem_nil)))) s_Model_letterOf h_Model_letterOf
set_option maxRecDepth 100000 in
theorem of_Model_letterOf {Q : Int → AMem → Prop} {x1 x2 : Int} {σ : AMem} (h : ∀ X : Nat → List Int → AMem → Prop, (∀ (x1 x2 : Int) (σ : AMem), B_Model_letterOf_0 X Q x1 x2 σ → X 0 [9790, x1, x2] σ) → (∀ (x1 x3 s0 : Int) (σ : AMem), B_Model_letterOf_1 X Q x1 x3 s0 σ → X 1 [9790, x1, x3, s0] σ) → X 0 [9790, x1, x2] σ) : T_Model_letterOf [9790, x1, x2] σ Q := fun X hX => h X (fun x1 x2 σ h => hX 0 [9790, x1, x2] σ h) (fun x1 x3 s0 σ h => hX 1 [9790, x1, x3, s0] σ h)
def c_Model_list : List aE := [(0, 1, .iload_n 1, 1, 0, 0, []), (1, 0, .ifCond .lt 41, 3, 0, 0, []), (4, 0, .iload_n 1, 1, 0, 0, []), (5, 0, .aload_n 0, 1, 0, 0, []), (6, 0, .getfield 467, 3, 8, 5, [0, 0, 6194]), (9, 0, .if_icmp .ge 33, 3, 0, 0, []), (12, 0, .iload_n 2, 1, 0, 0, []), (13, 0, .ifCond .lt 29, 3, 0, 0, []), (16, 0, .iload_n 2, 1, 0, 0, []), (17, 0, .aload_n 0, 1, 0, 0, []), (18, 0, .getfield 24, 3, 8, 8, [2, 0, 6197]), (21, 0, .iload_n 1, 1, 0, 0, []), (22, 0, .ifCond .lt 15, 3, 0, 0, []), (25, 0, .iload_n 1, 1, 0, 0, []), (26, 0, .aload_n 0, 1, 0, 0, []), (27, 0, .getfield 467, 3, 8, 5, [0, 0, 6194]), (30, 0, .if_icmp .ge 7, 3, 0, 0, []), (33, 0, .iload_n 1, 1, 0, 0, []), (34, 0, .goto 4, 3, 0, 0, []), (37, 2, .iconst 0, 1, 0, 0, []), (38, 3, .iaload, 1, 0, 0, []), (39, 0, .if_icmp .lt 7, 3, 0, 0, []), (42, 4, .iconst 1, 1, 0, 0, []), (43, 0, .goto 4, 3, 0, 0, []), (46, 0, .iconst 0, 1, 0, 0, []), (47, 5, .istore_n 3, 1, 0, 0, []), (48, 0, .aload_n 0, 1, 0, 0, []), (49, 0, .iload_n 3, 1, 0, 0, []), (50, 0, .ifCond .ne 25, 3, 0, 0, []), (53, 0, .aload_n 0, 1, 0, 0, []), (54, 0, .getfield 37, 3, 8, 12, [2, 0, 6201]), (57, 0, .iload_n 3, 1, 0, 0, []), (58, 0, .ifCond .eq 7, 3, 0, 0, []), (61, 0, .iconst 0, 1, 0, 0, []), (62, 0, .goto 9, 3, 0, 0, []), (65, 0, .bipush 8, 2, 0, 0, []), (67, 0, .iload_n 1, 1, 0, 0, []), (68, 0, .imul, 1, 0, 0, []), (69, 0, .iload_n 2, 1, 0, 0, []), (70, 0, .iadd, 1, 0, 0, []), (71, 6, .baload, 1, 3, 0, []), (72, 0, .ifCond .eq 7, 3, 0, 0, []), (75, 7, .iconst 1, 1, 0, 0, []), (76, 0, .goto 4, 3, 0, 0, []), (79, 0, .iconst 0, 1, 0, 0, []), (80, 8, .iconst 0, 1, 0, 0, []), (81, 0, .invokevirtual 287, 3, 181, 8, [8108]), (84, 0, .ifCond .eq 5, 3, 0, 0, []), (87, 0, .iconst 0, 1, 0, 0, []), (88, 0, .ireturn, 1, 0, 0, []), (89, 0, .aload_n 0, 1, 0, 0, []), (90, 0, .getfield 27, 3, 8, 9, [2, 0, 6198]), (93, 0, .bipush 8, 2, 0, 0, []), (95, 0, .iload_n 1, 1, 0, 0, []), (96, 0, .imul, 1, 0, 0, []), (97, 0, .iload_n 2, 1, 0, 0, []), (98, 0, .iadd, 1, 0, 0, []), (99, 0, .iaload, 1, 0, 0, []), (100, 0, .istore 4, 2, 0, 0, []), (102, 0, .aload_n 0, 1, 0, 0, []), (103, 0, .iconst 0, 1, 0, 0, []), (104, 0, .putfield 519, 3, 8, 4, [0, 0, 6193]), (107, 0, .iconst 1, 1, 0, 0, []), (108, 0, .istore 5, 2, 0, 0, []), (110, 9, .iload 5, 2, 0, 0, []), (112, 0, .aload_n 0, 1, 0, 0, []), (113, 0, .iload 4, 2, 0, 0, []), (115, 0, .invokevirtual 366, 3, 198, 8, [8197]), (118, 0, .if_icmp .ge 227, 3, 0, 0, []), (121, 0, .aload_n 0, 1, 0, 0, []), (122, 0, .iload 4, 2, 0, 0, []), (124, 0, .iload 5, 2, 0, 0, []), (126, 0, .invokevirtual 375, 3, 201, 8, [8213]), (129, 0, .ifCond .ne 6, 3, 0, 0, []), (132, 0, .goto 207, 3, 0, 0, []), (135, 0, .aload_n 0, 1, 0, 0, []), (136, 0, .iload 4, 2, 0, 0, []), (138, 0, .iload 5, 2, 0, 0, []), (140, 0, .invokevirtual 372, 3, 200, 8, [8205]), (143, 0, .ifCond .eq 19, 3, 0, 0, []), (146, 0, .aload_n 0, 1, 0, 0, []), (147, 0, .aload_n 0, 1, 0, 0, []), (148, 0, .getfield 519, 3, 8, 4, [0, 0, 6193]), (151, 0, .aload_n 0, 1, 0, 0, []), (152, 0, .iload 4, 2, 0, 0, []), (154, 0, .iload 5, 2, 0, 0, []), (156, 0, .invokevirtual 383, 3, 203, 8, [8223]), (159, 0, .invokevirtual 904, 3, 325, 8, [10237]), (162, 10, .iconst 0, 1, 0, 0, []), (163, 0, .istore 6, 2, 0, 0, []), (165, 11, .iload 6, 2, 0, 0, []), (167, 0, .bipush 16, 2, 0, 0, []), (169, 0, .if_icmp .ge 34, 3, 0, 0, []), (172, 0, .aload_n 0, 1, 0, 0, []), (173, 0, .iload 4, 2, 0, 0, []), (175, 0, .iload 5, 2, 0, 0, []), (177, 0, .invokevirtual 372, 3, 200, 8, [8205]), (180, 0, .ifCond .ne 23, 3, 0, 0, []), (183, 0, .aload_n 0, 1, 0, 0, []), (184, 0, .getfield 14, 3, 8, 3, [2, 0, 6192]), (187, 0, .aload_n 0, 1, 0, 0, []), (188, 0, .getfield 519, 3, 8, 4, [0, 0, 6193]), (191, 0, .iload 6, 2, 0, 0, []), (193, 0, .iadd, 1, 0, 0, []), (194, 0, .bipush 32, 2, 0, 0, []), (196, 0, .bastore, 1, 2, 0, []), (197, 0, .iinc 6 1, 3, 0, 0, []), (200, 0, .goto (-35), 3, 0, 0, []), (203, 12, .aload_n 0, 1, 0, 0, []), (204, 0, .getfield 14, 3, 8, 3, [2, 0, 6192]), (207, 0, .aload_n 0, 1, 0, 0, []), (208, 0, .getfield 519, 3, 8, 4, [0, 0, 6193]), (211, 0, .bipush 16, 2, 0, 0, []), (213, 0, .iadd, 1, 0, 0, []), (214, 0, .bipush 32, 2, 0, 0, []), (216, 0, .bastore, 1, 2, 0, []), (217, 0, .aload_n 0, 1, 0, 0, []), (218, 0, .getfield 14, 3, 8, 3, [2, 0, 6192]), (221, 0, .aload_n 0, 1, 0, 0, []), (222, 0, .getfield 519, 3, 8, 4, [0, 0, 6193]), (225, 0, .bipush 17, 2, 0, 0, []), (227, 0, .iadd, 1, 0, 0, []), (228, 0, .aload_n 0, 1, 0, 0, []), (229, 0, .iload 4, 2, 0, 0, []), (231, 0, .iload 5, 2, 0, 0, []), (233, 0, .invokevirtual 907, 3, 326, 8, [11002]), (236, 0, .i2b, 1, 0, 0, []), (237, 0, .bastore, 1, 2, 0, []), (238, 0, .aload_n 0, 1, 0, 0, []), (239, 0, .getfield 14, 3, 8, 3, [2, 0, 6192]), (242, 0, .aload_n 0, 1, 0, 0, []), (243, 0, .getfield 519, 3, 8, 4, [0, 0, 6193]), (246, 0, .bipush 18, 2, 0, 0, []), (248, 0, .iadd, 1, 0, 0, []), (249, 0, .bipush 32, 2, 0, 0, []), (251, 0, .bastore, 1, 2, 0, []), (252, 0, .aload_n 0, 1, 0, 0, []), (253, 0, .dup, 1, 0, 0, []), (254, 0, .getfield 519, 3, 8, 4, [0, 0, 6193]), (257, 0, .bipush 19, 2, 0, 0, []), (259, 0, .iadd, 1, 0, 0, []), (260, 0, .putfield 519, 3, 8, 4, [0, 0, 6193]), (263, 0, .aload_n 0, 1, 0, 0, []), (264, 0, .iload 4, 2, 0, 0, []), (266, 0, .iload 5, 2, 0, 0, []), (268, 0, .invokevirtual 332, 3, 232, 8, [9108]), (271, 0, .istore 6, 2, 0, 0, []), (273, 13, .iload 6, 2, 0, 0, []), (275, 0, .aload_n 0, 1, 0, 0, []), (276, 0, .iload 4, 2, 0, 0, []), (278, 0, .iload 5, 2, 0, 0, []), (280, 0, .invokevirtual 476, 3, 233, 8, [9112]), (283, 0, .if_icmp .ge 35, 3, 0, 0, []), (286, 0, .aload_n 0, 1, 0, 0, []), (287, 0, .getfield 14, 3, 8, 3, [2, 0, 6192]), (290, 0, .aload_n 0, 1, 0, 0, []), (291, 0, .getfield 519, 3, 8, 4, [0, 0, 6193]), (294, 0, .aload_n 0, 1, 0, 0, []), (295, 0, .getfield 17, 3, 8, 6, [2, 0, 6195]), (298, 0, .iload 6, 2, 0, 0, []), (300, 0, .baload, 1, 2, 0, []), (301, 0, .bastore, 1, 2, 0, []), (302, 0, .aload_n 0, 1, 0, 0, []), (303, 0, .dup, 1, 0, 0, []), (304, 0, .getfield 519, 3, 8, 4, [0, 0, 6193]), (307, 0, .iconst 1, 1, 0, 0, []), (308, 0, .iadd, 1, 0, 0, []), (309, 0, .putfield 519, 3, 8, 4, [0, 0, 6193]), (312, 0, .iinc 6 1, 3, 0, 0, []), (315, 0, .goto (-42), 3, 0, 0, []), (318, 0, .aload_n 0, 1, 0, 0, []), (319, 0, .getfield 14, 3, 8, 3, [2, 0, 6192]), (322, 0, .aload_n 0, 1, 0, 0, []), (323, 0, .getfield 519, 3, 8, 4, [0, 0, 6193]), (326, 0, .bipush 10, 2, 0, 0, []), (328, 0, .bastore, 1, 2, 0, []), (329, 0, .aload_n 0, 1, 0, 0, []), (330, 0, .dup, 1, 0, 0, []), (331, 0, .getfield 519, 3, 8, 4, [0, 0, 6193]), (334, 0, .iconst 1, 1, 0, 0, []), (335, 0, .iadd, 1, 0, 0, []), (336, 0, .putfield 519, 3, 8, 4, [0, 0, 6193]), (339, 14, .iinc 5 1, 3, 0, 0, []), (342, 0, .goto (-232), 3, 0, 0, []), (345, 0, .aload_n 0, 1, 0, 0, []), (346, 0, .getfield 519, 3, 8, 4, [0, 0, 6193]), (349, 0, .ireturn, 1, 0, 0, [])]
def m_Model_list : List aT := [(0, [(0, 2), (1, 0), (2, 0)], []), (37, [(0, 2), (1, 0), (2, 0)], [2, 0]), (38, [(0, 2), (1, 0), (2, 0)], [0, 2, 0]), (42, [(0, 2), (1, 0), (2, 0)], []), (47, [(0, 2), (1, 0), (2, 0)], [0]), (71, [(0, 2), (1, 0), (2, 0)], [0, 2, 2]), (75, [(0, 2), (1, 0), (2, 0)], [2]), (80, [(0, 2), (1, 0), (2, 0)], [0, 2]), (110, [(0, 2), (4, 0), (5, 0)], []), (162, [(0, 2), (4, 0), (5, 0)], []), (165, [(0, 2), (4, 0), (5, 0), (6, 0)], []), (203, [(0, 2), (4, 0), (5, 0)], []), (273, [(0, 2), (4, 0), (5, 0), (6, 0)], []), (339, [(0, 2), (4, 0), (5, 0)], [])]
def B_Model_list_0 (X : Nat → List Int → AMem → Prop) (Q : Int → AMem → Prop) (x1 x2 : Int) (σ : AMem) : Prop :=
  (if x1 < 0 then
  X 3 [9790, x1, x2] σ
  else
  (if x1 < (σ 9790 5) then
    (if x2 < 0 then
      X 3 [9790, x1, x2] σ
      else
      (if x1 < 0 then
        X 1 [9790, x1, x2, 9795, x2] σ
        else
        (if x1 < (σ 9790 5) then
          X 2 [9790, x1, x2, x1, 9795, x2] σ
          else
          X 1 [9790, x1, x2, 9795, x2] σ)))
    else
    X 3 [9790, x1, x2] σ))
def B_Model_list_1 (X : Nat → List Int → AMem → Prop) (Q : Int → AMem → Prop) (x1 x2 s0 s1 : Int) (σ : AMem) : Prop :=
  X 2 [9790, x1, x2, 0, s0, s1] σ
def B_Model_list_2 (X : Nat → List Int → AMem → Prop) (Q : Int → AMem → Prop) (x1 x2 s0 s1 s2 : Int) (σ : AMem) : Prop :=
  (if ly_k s1 = 1 then 0 ≤ s0 ∧ s0 < ly_l s1 ∧ (if s2 < (σ s1 s0) then
  X 4 [9790, x1, x2, 0] σ
  else
  X 3 [9790, x1, x2] σ) else False)
def B_Model_list_3 (X : Nat → List Int → AMem → Prop) (Q : Int → AMem → Prop) (x1 x2 : Int) (σ : AMem) : Prop :=
  X 4 [9790, x1, x2, 1] σ
def B_Model_list_4 (X : Nat → List Int → AMem → Prop) (Q : Int → AMem → Prop) (x1 x2 s0 : Int) (σ : AMem) : Prop :=
  (if s0 = 0 then
  (if s0 = 0 then
    am_r32 (8 * x1) ∧ am_r32 ((8 * x1) + x2) ∧ X 5 [9790, x1, x2, ((8 * x1) + x2), 9799, 9790] σ
    else
    X 5 [9790, x1, x2, 0, 9799, 9790] σ)
  else
  X 6 [9790, x1, x2, 9790] σ)
def B_Model_list_5 (X : Nat → List Int → AMem → Prop) (Q : Int → AMem → Prop) (x1 x2 s0 s1 s2 : Int) (σ : AMem) : Prop :=
  (if ly_k s1 = 3 then 0 ≤ s0 ∧ s0 < ly_l s1 ∧ (if (σ s1 s0) = 0 then
  X 7 [9790, x1, x2, 0, s2] σ
  else
  X 6 [9790, x1, x2, s2] σ) else False)
def B_Model_list_6 (X : Nat → List Int → AMem → Prop) (Q : Int → AMem → Prop) (x1 x2 s0 : Int) (σ : AMem) : Prop :=
  X 7 [9790, x1, x2, 1, s0] σ
def B_Model_list_7 (X : Nat → List Int → AMem → Prop) (Q : Int → AMem → Prop) (x1 x2 s0 s1 : Int) (σ : AMem) : Prop :=
  (if ly_k s1 = 28 then T_Model_throwing [s1, s0, 0] σ (fun r1 σ2 => (if r1 = 0 then
  am_r32 (8 * x1) ∧ am_r32 ((8 * x1) + x2) ∧ 0 ≤ ((8 * x1) + x2) ∧ ((8 * x1) + x2) < 64 ∧ am_let (am_upd σ2 9790 4 0) (fun σ3 => X 8 [9790, (σ2 9796 ((8 * x1) + x2)), 1] σ3)
  else
  Q 0 σ2)) else False)
def B_Model_list_8 (X : Nat → List Int → AMem → Prop) (Q : Int → AMem → Prop) (x4 x5 : Int) (σ : AMem) : Prop :=
  T_Model_symbolMany [9790, x4] σ (fun r1 σ2 => (if x5 < r1 then
  T_Model_bind [9790, x4, x5] σ2 (fun r3 σ4 => (if r3 = 0 then
    X 13 [9790, x4, x5] σ4
    else
    T_Model_where [9790, x4, x5] σ4 (fun r5 σ6 => (if r5 = 0 then
      X 9 [9790, x4, x5] σ6
      else
      T_Model_value [9790, x4, x5] σ6 (fun r7 σ8 => T_Model_sixteen [9790, (σ6 9790 4), r7] σ8 (fun r9 σ10 => X 9 [9790, x4, x5] σ10))))))
  else
  Q (σ2 9790 4) σ2))
def B_Model_list_9 (X : Nat → List Int → AMem → Prop) (Q : Int → AMem → Prop) (x4 x5 : Int) (σ : AMem) : Prop :=
  X 10 [9790, x4, x5, 0] σ
def B_Model_list_10 (X : Nat → List Int → AMem → Prop) (Q : Int → AMem → Prop) (x4 x5 x6 : Int) (σ : AMem) : Prop :=
  (if x6 < 16 then
  T_Model_where [9790, x4, x5] σ (fun r1 σ2 => (if r1 = 0 then
    am_r32 ((σ2 9790 4) + x6) ∧ 0 ≤ ((σ2 9790 4) + x6) ∧ ((σ2 9790 4) + x6) < 65536 ∧ am_let (am_upd σ2 9792 ((σ2 9790 4) + x6) (w8 32)) (fun σ3 => am_r32 (x6 + 1) ∧ X 10 [9790, x4, x5, (x6 + 1)] σ3)
    else
    X 11 [9790, x4, x5] σ2))
  else
  X 11 [9790, x4, x5] σ)
def B_Model_list_11 (X : Nat → List Int → AMem → Prop) (Q : Int → AMem → Prop) (x4 x5 : Int) (σ : AMem) : Prop :=
  am_r32 ((σ 9790 4) + 16) ∧ 0 ≤ ((σ 9790 4) + 16) ∧ ((σ 9790 4) + 16) < 65536 ∧ am_let (am_upd σ 9792 ((σ 9790 4) + 16) (w8 32)) (fun σ1 => am_r32 ((σ1 9790 4) + 17) ∧ T_Model_letterOf [9790, x4, x5] σ1 (fun r2 σ3 => 0 ≤ ((σ1 9790 4) + 17) ∧ ((σ1 9790 4) + 17) < 65536 ∧ am_let (am_upd σ3 9792 ((σ1 9790 4) + 17) (w8 (w8 r2))) (fun σ4 => am_r32 ((σ4 9790 4) + 18) ∧ 0 ≤ ((σ4 9790 4) + 18) ∧ ((σ4 9790 4) + 18) < 65536 ∧ am_let (am_upd σ4 9792 ((σ4 9790 4) + 18) (w8 32)) (fun σ5 => am_r32 ((σ5 9790 4) + 19) ∧ am_let (am_upd σ5 9790 4 ((σ5 9790 4) + 19)) (fun σ6 => T_Model_nameAt [9790, x4, x5] σ6 (fun r7 σ8 => X 12 [9790, x4, x5, r7] σ8))))))
def B_Model_list_12 (X : Nat → List Int → AMem → Prop) (Q : Int → AMem → Prop) (x4 x5 x6 : Int) (σ : AMem) : Prop :=
  T_Model_nameEnd [9790, x4, x5] σ (fun r1 σ2 => (if x6 < r1 then
  0 ≤ x6 ∧ x6 < 65536 ∧ 0 ≤ (σ2 9790 4) ∧ (σ2 9790 4) < 65536 ∧ am_let (am_upd σ2 9792 (σ2 9790 4) (w8 (σ2 9793 x6))) (fun σ5 => am_r32 ((σ5 9790 4) + 1) ∧ am_let (am_upd σ5 9790 4 ((σ5 9790 4) + 1)) (fun σ6 => am_r32 (x6 + 1) ∧ X 12 [9790, x4, x5, (x6 + 1)] σ6))
  else
  0 ≤ (σ2 9790 4) ∧ (σ2 9790 4) < 65536 ∧ am_let (am_upd σ2 9792 (σ2 9790 4) (w8 10)) (fun σ3 => am_r32 ((σ3 9790 4) + 1) ∧ am_let (am_upd σ3 9790 4 ((σ3 9790 4) + 1)) (fun σ4 => X 13 [9790, x4, x5] σ4))))
def B_Model_list_13 (X : Nat → List Int → AMem → Prop) (Q : Int → AMem → Prop) (x4 x5 : Int) (σ : AMem) : Prop :=
  am_r32 (x5 + 1) ∧ X 8 [9790, x4, (x5 + 1)] σ
def B_Model_list : (Nat → List Int → AMem → Prop) → (Int → AMem → Prop) → Nat → List Int → AMem → Prop := fun X Q j v σ => am_sel [(am_v3 (fun t x1 x2 σ => if t = 9790 then B_Model_list_0 X Q x1 x2 σ else False)), (am_v5 (fun t x1 x2 s0 s1 σ => if t = 9790 then B_Model_list_1 X Q x1 x2 s0 s1 σ else False)), (am_v6 (fun t x1 x2 s0 s1 s2 σ => if t = 9790 then B_Model_list_2 X Q x1 x2 s0 s1 s2 σ else False)), (am_v3 (fun t x1 x2 σ => if t = 9790 then B_Model_list_3 X Q x1 x2 σ else False)), (am_v4 (fun t x1 x2 s0 σ => if t = 9790 then B_Model_list_4 X Q x1 x2 s0 σ else False)), (am_v6 (fun t x1 x2 s0 s1 s2 σ => if t = 9790 then B_Model_list_5 X Q x1 x2 s0 s1 s2 σ else False)), (am_v4 (fun t x1 x2 s0 σ => if t = 9790 then B_Model_list_6 X Q x1 x2 s0 σ else False)), (am_v5 (fun t x1 x2 s0 s1 σ => if t = 9790 then B_Model_list_7 X Q x1 x2 s0 s1 σ else False)), (am_v3 (fun t x4 x5 σ => if t = 9790 then B_Model_list_8 X Q x4 x5 σ else False)), (am_v3 (fun t x4 x5 σ => if t = 9790 then B_Model_list_9 X Q x4 x5 σ else False)), (am_v4 (fun t x4 x5 x6 σ => if t = 9790 then B_Model_list_10 X Q x4 x5 x6 σ else False)), (am_v3 (fun t x4 x5 σ => if t = 9790 then B_Model_list_11 X Q x4 x5 σ else False)), (am_v4 (fun t x4 x5 x6 σ => if t = 9790 then B_Model_list_12 X Q x4 x5 x6 σ else False)), (am_v3 (fun t x4 x5 σ => if t = 9790 then B_Model_list_13 X Q x4 x5 σ else False))] j v σ
def T_Model_list : List Int → AMem → (Int → AMem → Prop) → Prop := am_T B_Model_list
abbrev y_Model_list : MethodName := ⟨"LinkHouseModel", "list", "(II)I"⟩
def a_Model_list : AC := (327, (y_Model_list, prog_10_method_149_code, 7, (Option.some Jvm.ClassFile.FieldType.int)), [2, 0, 0], 0, false, { frames := 7, cells := 0, slots := 0, locals := 216 }, T_Model_list)
set_option maxRecDepth 100000 in
theorem ms_Model_list : am_MSp a_Model_list := am_ms_v 10236 9 10234 10235 8 rfl (by decide +kernel)
abbrev k_Model_list : List AC := [a_Model_throwing, a_Model_symbolMany, a_Model_bind, a_Model_where, a_Model_value, a_Model_sixteen, a_Model_letterOf, a_Model_nameAt, a_Model_nameEnd]
set_option maxRecDepth 100000 in
theorem s_Model_list : (am_chkR { frames := 7, cells := 0, slots := 0, locals := 216 } k_Model_list && am_chkN c_Model_list { frames := 7, cells := 0, slots := 0, locals := 216 } && c_Model_list.all (am_chk "LinkHouseModel" prog_10_method_149_code 7 (Option.some Jvm.ClassFile.FieldType.int) k_Model_list) && c_Model_list.all (am_chkL m_Model_list) && decide (m_Model_list[0]? = some (0, am_argp 0 [2, 0, 0], [])) && decide (am_argn [2, 0, 0] ≤ 7)) = true := by decide +kernel
set_option maxHeartbeats 150000 in
set_option maxRecDepth 100000 in
theorem h_Model_list : ∀ X Q j v σ, B_Model_list X Q j v σ → am_at GR k_Model_list c_Model_list m_Model_list X Q 192 j v σ := fun X Q => am_sel_all (P := fun j v σ => am_at GR k_Model_list c_Model_list m_Model_list X Q 192 j v σ) (⟨(am_v3_of (fun t x1 x2 σ h => am_tk (fun e => by subst e; exact fun h => h) h)), ⟨(am_v5_of (fun t x1 x2 s0 s1 σ h => am_tk (fun e => by subst e; exact fun h => h) h)), ⟨(am_v6_of (fun t x1 x2 s0 s1 s2 σ h => am_tk (fun e => by subst e; exact fun h => h) h)), ⟨(am_v3_of (fun t x1 x2 σ h => am_tk (fun e => by subst e; exact fun h => h) h)), ⟨(am_v4_of (fun t x1 x2 s0 σ h => am_tk (fun e => by subst e; exact fun h => h) h)), ⟨(am_v6_of (fun t x1 x2 s0 s1 s2 σ h => am_tk (fun e => by subst e; exact fun h => h) h)), ⟨(am_v4_of (fun t x1 x2 s0 σ h => am_tk (fun e => by subst e; exact fun h => h) h)), ⟨(am_v5_of (fun t x1 x2 s0 s1 σ h => am_tk (fun e => by subst e; exact fun h => h) h)), ⟨(am_v3_of (fun t x4 x5 σ h => am_tk (fun e => by subst e; exact fun h => h) h)), ⟨(am_v3_of (fun t x4 x5 σ h => am_tk (fun e => by subst e; exact fun h => h) h)), ⟨(am_v4_of (fun t x4 x5 x6 σ h => am_tk (fun e => by subst e; exact fun h => h) h)), ⟨(am_v3_of (fun t x4 x5 σ h => am_tk (fun e => by subst e; exact fun h => h) h)), ⟨(am_v4_of (fun t x4 x5 x6 σ h => am_tk (fun e => by subst e; exact fun h => h) h)), ⟨(am_v3_of (fun t x4 x5 σ h => am_tk (fun e => by subst e; exact fun h => h) h)), trivial⟩⟩⟩⟩⟩⟩⟩⟩⟩⟩⟩⟩⟩⟩)
set_option maxRecDepth 100000 in
theorem S_Model_list (l : Launch) (w : AW) : am_S l w GR a_Model_list := am_sound (rt := 0) (cal := k_Model_list) 327 y_Model_list prog_10_method_149_code 7 (Option.some Jvm.ClassFile.FieldType.int) [2, 0, 0] false { frames := 7, cells := 0, slots := 0, locals := 216 } B_Model_list "LinkHouseModel" c_Model_list m_Model_list 192 ms_Model_list (by decide +kernel) rfl rfl (am_cal (S_Model_throwing l w) (am_cal (S_Model_symbolMany l w) (am_cal (S_Model_bind l w) (am_cal (S_Model_where l w) (am_cal (S_Model_value l w) (am_cal (S_Model_sixteen l w) (am_cal (S_Model_letterOf l w) (am_cal (S_Model_nameAt l w) (am_cal (S_Model_nameEnd l w) (fun _ h => absurd h List.not_mem_nil)))))))))) s_Model_list h_Model_list
set_option maxRecDepth 100000 in
theorem of_Model_list {Q : Int → AMem → Prop} {x1 x2 : Int} {σ : AMem} (h : ∀ X : Nat → List Int → AMem → Prop, (∀ (x1 x2 : Int) (σ : AMem), B_Model_list_0 X Q x1 x2 σ → X 0 [9790, x1, x2] σ) → (∀ (x1 x2 s0 s1 : Int) (σ : AMem), B_Model_list_1 X Q x1 x2 s0 s1 σ → X 1 [9790, x1, x2, s0, s1] σ) → (∀ (x1 x2 s0 s1 s2 : Int) (σ : AMem), B_Model_list_2 X Q x1 x2 s0 s1 s2 σ → X 2 [9790, x1, x2, s0, s1, s2] σ) → (∀ (x1 x2 : Int) (σ : AMem), B_Model_list_3 X Q x1 x2 σ → X 3 [9790, x1, x2] σ) → (∀ (x1 x2 s0 : Int) (σ : AMem), B_Model_list_4 X Q x1 x2 s0 σ → X 4 [9790, x1, x2, s0] σ) → (∀ (x1 x2 s0 s1 s2 : Int) (σ : AMem), B_Model_list_5 X Q x1 x2 s0 s1 s2 σ → X 5 [9790, x1, x2, s0, s1, s2] σ) → (∀ (x1 x2 s0 : Int) (σ : AMem), B_Model_list_6 X Q x1 x2 s0 σ → X 6 [9790, x1, x2, s0] σ) → (∀ (x1 x2 s0 s1 : Int) (σ : AMem), B_Model_list_7 X Q x1 x2 s0 s1 σ → X 7 [9790, x1, x2, s0, s1] σ) → (∀ (x4 x5 : Int) (σ : AMem), B_Model_list_8 X Q x4 x5 σ → X 8 [9790, x4, x5] σ) → (∀ (x4 x5 : Int) (σ : AMem), B_Model_list_9 X Q x4 x5 σ → X 9 [9790, x4, x5] σ) → (∀ (x4 x5 x6 : Int) (σ : AMem), B_Model_list_10 X Q x4 x5 x6 σ → X 10 [9790, x4, x5, x6] σ) → (∀ (x4 x5 : Int) (σ : AMem), B_Model_list_11 X Q x4 x5 σ → X 11 [9790, x4, x5] σ) → (∀ (x4 x5 x6 : Int) (σ : AMem), B_Model_list_12 X Q x4 x5 x6 σ → X 12 [9790, x4, x5, x6] σ) → (∀ (x4 x5 : Int) (σ : AMem), B_Model_list_13 X Q x4 x5 σ → X 13 [9790, x4, x5] σ) → X 0 [9790, x1, x2] σ) : T_Model_list [9790, x1, x2] σ Q := fun X hX => h X (fun x1 x2 σ h => hX 0 [9790, x1, x2] σ h) (fun x1 x2 s0 s1 σ h => hX 1 [9790, x1, x2, s0, s1] σ h) (fun x1 x2 s0 s1 s2 σ h => hX 2 [9790, x1, x2, s0, s1, s2] σ h) (fun x1 x2 σ h => hX 3 [9790, x1, x2] σ h) (fun x1 x2 s0 σ h => hX 4 [9790, x1, x2, s0] σ h) (fun x1 x2 s0 s1 s2 σ h => hX 5 [9790, x1, x2, s0, s1, s2] σ h) (fun x1 x2 s0 σ h => hX 6 [9790, x1, x2, s0] σ h) (fun x1 x2 s0 s1 σ h => hX 7 [9790, x1, x2, s0, s1] σ h) (fun x4 x5 σ h => hX 8 [9790, x4, x5] σ h) (fun x4 x5 σ h => hX 9 [9790, x4, x5] σ h) (fun x4 x5 x6 σ h => hX 10 [9790, x4, x5, x6] σ h) (fun x4 x5 σ h => hX 11 [9790, x4, x5] σ h) (fun x4 x5 x6 σ h => hX 12 [9790, x4, x5, x6] σ h) (fun x4 x5 σ h => hX 13 [9790, x4, x5] σ h)
def c_Model_wide : List aE := [(0, 1, .iload_n 0, 1, 0, 0, []), (1, 0, .bipush 10, 2, 0, 0, []), (3, 0, .if_icmp .ge 7, 3, 0, 0, []), (6, 0, .iconst 1, 1, 0, 0, []), (7, 0, .goto 36, 3, 0, 0, []), (10, 0, .iload_n 0, 1, 0, 0, []), (11, 0, .bipush 100, 2, 0, 0, []), (13, 0, .if_icmp .ge 7, 3, 0, 0, []), (16, 0, .iconst 2, 1, 0, 0, []), (17, 0, .goto 26, 3, 0, 0, []), (20, 0, .iload_n 0, 1, 0, 0, []), (21, 0, .sipush 1000, 3, 0, 0, []), (24, 0, .if_icmp .ge 7, 3, 0, 0, []), (27, 0, .iconst 3, 1, 0, 0, []), (28, 0, .goto 15, 3, 0, 0, []), (31, 0, .iload_n 0, 1, 0, 0, []), (32, 0, .sipush 10000, 3, 0, 0, []), (35, 0, .if_icmp .ge 7, 3, 0, 0, []), (38, 0, .iconst 4, 1, 0, 0, []), (39, 0, .goto 4, 3, 0, 0, []), (42, 0, .iconst 5, 1, 0, 0, []), (43, 0, .ireturn, 1, 0, 0, [])]
def m_Model_wide : List aT := [(0, [(0, 0)], [])]
def B_Model_wide_0 (X : Nat → List Int → AMem → Prop) (Q : Int → AMem → Prop) (x0 : Int) (σ : AMem) : Prop :=
  (if x0 < 10 then
  Q 1 σ
  else
  (if x0 < 100 then
    Q 2 σ
    else
    (if x0 < 1000 then
      Q 3 σ
      else
      (if x0 < 10000 then
        Q 4 σ
        else
        Q 5 σ))))
def B_Model_wide : (Nat → List Int → AMem → Prop) → (Int → AMem → Prop) → Nat → List Int → AMem → Prop := fun X Q j v σ => am_sel [(am_v1 (fun x0 σ => B_Model_wide_0 X Q x0 σ))] j v σ
def T_Model_wide : List Int → AMem → (Int → AMem → Prop) → Prop := am_T B_Model_wide
abbrev y_Model_wide : MethodName := ⟨"LinkHouseModel", "wide", "(I)I"⟩
def a_Model_wide : AC := (328, (y_Model_wide, prog_10_method_150_code, 1, (Option.some Jvm.ClassFile.FieldType.int)), [0], 0, true, { frames := 0, cells := 0, slots := 0, locals := 0 }, T_Model_wide)
set_option maxRecDepth 100000 in
theorem ms_Model_wide : am_MSp a_Model_wide := am_ms_s 11012 9 11011 rfl (by decide +kernel)
abbrev k_Model_wide : List AC := []
set_option maxRecDepth 100000 in
theorem s_Model_wide : (am_chkR { frames := 0, cells := 0, slots := 0, locals := 0 } k_Model_wide && am_chkN c_Model_wide { frames := 0, cells := 0, slots := 0, locals := 0 } && c_Model_wide.all (am_chk "LinkHouseModel" prog_10_method_150_code 1 (Option.some Jvm.ClassFile.FieldType.int) k_Model_wide) && c_Model_wide.all (am_chkL m_Model_wide) && decide (m_Model_wide[0]? = some (0, am_argp 0 [0], [])) && decide (am_argn [0] ≤ 1)) = true := by decide +kernel
set_option maxHeartbeats 150000 in
set_option maxRecDepth 100000 in
theorem h_Model_wide : ∀ X Q j v σ, B_Model_wide X Q j v σ → am_at GR k_Model_wide c_Model_wide m_Model_wide X Q 27 j v σ := fun X Q => am_sel_all (P := fun j v σ => am_at GR k_Model_wide c_Model_wide m_Model_wide X Q 27 j v σ) (⟨(am_v1_of (fun x0 σ h => h)), trivial⟩)
set_option maxRecDepth 100000 in
theorem S_Model_wide (l : Launch) (w : AW) : am_S l w GR a_Model_wide := am_sound (rt := 0) (cal := k_Model_wide) 328 y_Model_wide prog_10_method_150_code 1 (Option.some Jvm.ClassFile.FieldType.int) [0] true { frames := 0, cells := 0, slots := 0, locals := 0 } B_Model_wide "LinkHouseModel" c_Model_wide m_Model_wide 27 ms_Model_wide (by decide +kernel) rfl rfl (fun _ h => absurd h List.not_mem_nil) s_Model_wide h_Model_wide
set_option maxRecDepth 100000 in
theorem of_Model_wide {Q : Int → AMem → Prop} {x0 : Int} {σ : AMem} (h : ∀ X : Nat → List Int → AMem → Prop, (∀ (x0 : Int) (σ : AMem), B_Model_wide_0 X Q x0 σ → X 0 [x0] σ) → X 0 [x0] σ) : T_Model_wide [x0] σ Q := fun X hX => h X (fun x0 σ h => hX 0 [x0] σ h)
set_option maxRecDepth 100000 in
theorem iff_Model_wide {Q : Int → AMem → Prop} {X : Nat → List Int → AMem → Prop} {x0 : Int} {σ : AMem} : T_Model_wide [x0] σ Q ↔ B_Model_wide_0 X Q x0 σ := ⟨fun h => h (fun j v σ => B_Model_wide X Q j v σ) (fun _ _ _ q => q), fun h _ hX => hX 0 _ _ h⟩
def c_Model_sayNumber : List aE := [(0, 1, .aload_n 0, 1, 0, 0, []), (1, 0, .aload_n 0, 1, 0, 0, []), (2, 0, .getfield 519, 3, 8, 4, [0, 0, 6193]), (5, 0, .iload_n 1, 1, 0, 0, []), (6, 0, .invokevirtual 887, 3, 321, 8, [10225]), (9, 0, .aload_n 0, 1, 0, 0, []), (10, 0, .dup, 1, 0, 0, []), (11, 0, .getfield 519, 3, 8, 4, [0, 0, 6193]), (14, 0, .iload_n 1, 1, 0, 0, []), (15, 0, .invokestatic 910, 3, 328, 0, [11010]), (18, 0, .iadd, 1, 0, 0, []), (19, 0, .putfield 519, 3, 8, 4, [0, 0, 6193]), (22, 0, .aload_n 0, 1, 0, 0, []), (23, 0, .getfield 14, 3, 8, 3, [2, 0, 6192]), (26, 0, .aload_n 0, 1, 0, 0, []), (27, 0, .getfield 519, 3, 8, 4, [0, 0, 6193]), (30, 0, .iload_n 2, 1, 0, 0, []), (31, 0, .i2b, 1, 0, 0, []), (32, 0, .bastore, 1, 2, 0, []), (33, 0, .aload_n 0, 1, 0, 0, []), (34, 0, .dup, 1, 0, 0, []), (35, 0, .getfield 519, 3, 8, 4, [0, 0, 6193]), (38, 0, .iconst 1, 1, 0, 0, []), (39, 0, .iadd, 1, 0, 0, []), (40, 0, .putfield 519, 3, 8, 4, [0, 0, 6193]), (43, 0, .return_, 1, 0, 0, [])]
def m_Model_sayNumber : List aT := [(0, [(0, 2), (1, 0), (2, 0)], [])]
def B_Model_sayNumber_0 (X : Nat → List Int → AMem → Prop) (Q : Int → AMem → Prop) (x1 x2 : Int) (σ : AMem) : Prop :=
  T_Model_digits [9790, (σ 9790 4), x1] σ (fun r1 σ2 => T_Model_wide [x1] σ2 (fun r3 σ4 => am_r32 ((σ2 9790 4) + r3) ∧ am_let (am_upd σ4 9790 4 ((σ2 9790 4) + r3)) (fun σ5 => 0 ≤ (σ5 9790 4) ∧ (σ5 9790 4) < 65536 ∧ am_let (am_upd σ5 9792 (σ5 9790 4) (w8 (w8 x2))) (fun σ6 => am_r32 ((σ6 9790 4) + 1) ∧ am_let (am_upd σ6 9790 4 ((σ6 9790 4) + 1)) (fun σ7 => Q 0 σ7)))))
def B_Model_sayNumber : (Nat → List Int → AMem → Prop) → (Int → AMem → Prop) → Nat → List Int → AMem → Prop := fun X Q j v σ => am_sel [(am_v3 (fun t x1 x2 σ => if t = 9790 then B_Model_sayNumber_0 X Q x1 x2 σ else False))] j v σ
def T_Model_sayNumber : List Int → AMem → (Int → AMem → Prop) → Prop := am_T B_Model_sayNumber
abbrev y_Model_sayNumber : MethodName := ⟨"LinkHouseModel", "sayNumber", "(II)V"⟩
def a_Model_sayNumber : AC := (329, (y_Model_sayNumber, prog_10_method_151_code, 3, (Option.none : Option Jvm.ClassFile.FieldType)), [2, 0, 0], 3, false, { frames := 1, cells := 0, slots := 0, locals := 32 }, T_Model_sayNumber)
set_option maxRecDepth 100000 in
theorem ms_Model_sayNumber : am_MSp a_Model_sayNumber := am_ms_v 11016 9 11015 113011 8 rfl (by decide +kernel)
abbrev k_Model_sayNumber : List AC := [a_Model_digits, a_Model_wide]
set_option maxRecDepth 100000 in
theorem s_Model_sayNumber : (am_chkR { frames := 1, cells := 0, slots := 0, locals := 32 } k_Model_sayNumber && am_chkN c_Model_sayNumber { frames := 1, cells := 0, slots := 0, locals := 32 } && c_Model_sayNumber.all (am_chk "LinkHouseModel" prog_10_method_151_code 3 (Option.none : Option Jvm.ClassFile.FieldType) k_Model_sayNumber) && c_Model_sayNumber.all (am_chkL m_Model_sayNumber) && decide (m_Model_sayNumber[0]? = some (0, am_argp 0 [2, 0, 0], [])) && decide (am_argn [2, 0, 0] ≤ 3)) = true := by decide +kernel
set_option maxHeartbeats 150000 in
set_option maxRecDepth 100000 in
theorem h_Model_sayNumber : ∀ X Q j v σ, B_Model_sayNumber X Q j v σ → am_at GR k_Model_sayNumber c_Model_sayNumber m_Model_sayNumber X Q 31 j v σ := fun X Q => am_sel_all (P := fun j v σ => am_at GR k_Model_sayNumber c_Model_sayNumber m_Model_sayNumber X Q 31 j v σ) (⟨(am_v3_of (fun t x1 x2 σ h => am_tk (fun e => by subst e; exact fun h => h) h)), trivial⟩)
set_option maxRecDepth 100000 in
theorem S_Model_sayNumber (l : Launch) (w : AW) : am_S l w GR a_Model_sayNumber := am_sound (rt := 3) (cal := k_Model_sayNumber) 329 y_Model_sayNumber prog_10_method_151_code 3 (Option.none : Option Jvm.ClassFile.FieldType) [2, 0, 0] false { frames := 1, cells := 0, slots := 0, locals := 32 } B_Model_sayNumber "LinkHouseModel" c_Model_sayNumber m_Model_sayNumber 31 ms_Model_sayNumber (by decide +kernel) rfl rfl (am_cal (S_Model_digits l w) (am_cal (S_Model_wide l w) (fun _ h => absurd h List.not_mem_nil))) s_Model_sayNumber h_Model_sayNumber
set_option maxRecDepth 100000 in
theorem of_Model_sayNumber {Q : Int → AMem → Prop} {x1 x2 : Int} {σ : AMem} (h : ∀ X : Nat → List Int → AMem → Prop, (∀ (x1 x2 : Int) (σ : AMem), B_Model_sayNumber_0 X Q x1 x2 σ → X 0 [9790, x1, x2] σ) → X 0 [9790, x1, x2] σ) : T_Model_sayNumber [9790, x1, x2] σ Q := fun X hX => h X (fun x1 x2 σ h => hX 0 [9790, x1, x2] σ h)
set_option maxRecDepth 100000 in
theorem iff_Model_sayNumber {Q : Int → AMem → Prop} {X : Nat → List Int → AMem → Prop} {x1 x2 : Int} {σ : AMem} : T_Model_sayNumber [9790, x1, x2] σ Q ↔ B_Model_sayNumber_0 X Q x1 x2 σ := ⟨fun h => h (fun j v σ => B_Model_sayNumber X Q j v σ) (fun _ _ _ q => q), fun h _ hX => hX 0 _ _ h⟩
def c_Model_map : List aE := [(0, 1, .aload_n 0, 1, 0, 0, []), (1, 0, .aload_n 0, 1, 0, 0, []), (2, 0, .getfield 40, 3, 8, 13, [0, 0, 6202]), (5, 0, .ifCond .eq 7, 3, 0, 0, []), (8, 0, .iconst 1, 1, 0, 0, []), (9, 0, .goto 4, 3, 0, 0, []), (12, 0, .iconst 0, 1, 0, 0, []), (13, 2, .iconst 0, 1, 0, 0, []), (14, 0, .invokevirtual 287, 3, 181, 8, [8108]), (17, 0, .ifCond .eq 5, 3, 0, 0, []), (20, 0, .iconst 0, 1, 0, 0, []), (21, 0, .ireturn, 1, 0, 0, []), (22, 0, .iconst 0, 1, 0, 0, []), (23, 0, .istore_n 1, 1, 0, 0, []), (24, 0, .iconst 0, 1, 0, 0, []), (25, 0, .istore_n 2, 1, 0, 0, []), (26, 3, .iload_n 2, 1, 0, 0, []), (27, 0, .aload_n 0, 1, 0, 0, []), (28, 0, .getfield 601, 3, 8, 50, [0, 0, 6239]), (31, 0, .if_icmp .ge 40, 3, 0, 0, []), (34, 0, .iload_n 1, 1, 0, 0, []), (35, 0, .bipush 22, 2, 0, 0, []), (37, 0, .aload_n 0, 1, 0, 0, []), (38, 0, .getfield 142, 3, 8, 56, [2, 0, 7005]), (41, 0, .iload_n 2, 1, 0, 0, []), (42, 0, .iaload, 1, 0, 0, []), (43, 0, .invokestatic 910, 3, 328, 0, [11010]), (46, 0, .iadd, 1, 0, 0, []), (47, 0, .aload_n 0, 1, 0, 0, []), (48, 0, .getfield 136, 3, 8, 54, [2, 0, 7003]), (51, 0, .iload_n 2, 1, 0, 0, []), (52, 0, .iaload, 1, 0, 0, []), (53, 0, .invokestatic 910, 3, 328, 0, [11010]), (56, 0, .iadd, 1, 0, 0, []), (57, 0, .iconst 1, 1, 0, 0, []), (58, 0, .iadd, 1, 0, 0, []), (59, 0, .iconst 1, 1, 0, 0, []), (60, 0, .iadd, 1, 0, 0, []), (61, 0, .iconst 1, 1, 0, 0, []), (62, 0, .iadd, 1, 0, 0, []), (63, 0, .iadd, 1, 0, 0, []), (64, 0, .istore_n 1, 1, 0, 0, []), (65, 0, .iinc 2 1, 3, 0, 0, []), (68, 0, .goto (-42), 3, 0, 0, []), (71, 0, .iconst 0, 1, 0, 0, []), (72, 0, .istore_n 2, 1, 0, 0, []), (73, 4, .iload_n 2, 1, 0, 0, []), (74, 0, .aload_n 0, 1, 0, 0, []), (75, 0, .getfield 489, 3, 8, 48, [0, 0, 6237]), (78, 0, .if_icmp .ge 26, 3, 0, 0, []), (81, 0, .iload_n 1, 1, 0, 0, []), (82, 0, .bipush 18, 2, 0, 0, []), (84, 0, .aload_n 0, 1, 0, 0, []), (85, 0, .getfield 57, 3, 8, 22, [2, 0, 6211]), (88, 0, .aload_n 0, 1, 0, 0, []), (89, 0, .getfield 124, 3, 8, 49, [2, 0, 6238]), (92, 0, .iload_n 2, 1, 0, 0, []), (93, 0, .iaload, 1, 0, 0, []), (94, 0, .iaload, 1, 0, 0, []), (95, 0, .iadd, 1, 0, 0, []), (96, 0, .iadd, 1, 0, 0, []), (97, 0, .istore_n 1, 1, 0, 0, []), (98, 0, .iinc 2 1, 3, 0, 0, []), (101, 0, .goto (-28), 3, 0, 0, []), (104, 0, .iload_n 1, 1, 0, 0, []), (105, 0, .ldc 13, 2, 65536, 0, [6186]), (107, 0, .if_icmp .le 5, 3, 0, 0, []), (110, 0, .iconst (-1), 1, 0, 0, []), (111, 0, .ireturn, 1, 0, 0, []), (112, 0, .aload_n 0, 1, 0, 0, []), (113, 0, .iconst 0, 1, 0, 0, []), (114, 0, .putfield 519, 3, 8, 4, [0, 0, 6193]), (117, 0, .iconst 0, 1, 0, 0, []), (118, 0, .istore_n 2, 1, 0, 0, []), (119, 5, .iload_n 2, 1, 0, 0, []), (120, 0, .aload_n 0, 1, 0, 0, []), (121, 0, .getfield 601, 3, 8, 50, [0, 0, 6239]), (124, 0, .if_icmp .ge 108, 3, 0, 0, []), (127, 0, .aload_n 0, 1, 0, 0, []), (128, 0, .aload_n 0, 1, 0, 0, []), (129, 0, .getfield 519, 3, 8, 4, [0, 0, 6193]), (132, 0, .aload_n 0, 1, 0, 0, []), (133, 0, .getfield 145, 3, 8, 57, [2, 0, 7006]), (136, 0, .iload_n 2, 1, 0, 0, []), (137, 0, .laload, 1, 0, 0, []), (138, 0, .invokevirtual 904, 3, 325, 8, [10237]), (141, 0, .aload_n 0, 1, 0, 0, []), (142, 0, .getfield 14, 3, 8, 3, [2, 0, 6192]), (145, 0, .aload_n 0, 1, 0, 0, []), (146, 0, .getfield 519, 3, 8, 4, [0, 0, 6193]), (149, 0, .bipush 16, 2, 0, 0, []), (151, 0, .iadd, 1, 0, 0, []), (152, 0, .bipush 32, 2, 0, 0, []), (154, 0, .bastore, 1, 2, 0, []), (155, 0, .aload_n 0, 1, 0, 0, []), (156, 0, .dup, 1, 0, 0, []), (157, 0, .getfield 519, 3, 8, 4, [0, 0, 6193]), (160, 0, .bipush 17, 2, 0, 0, []), (162, 0, .iadd, 1, 0, 0, []), (163, 0, .putfield 519, 3, 8, 4, [0, 0, 6193]), (166, 0, .aload_n 0, 1, 0, 0, []), (167, 0, .aload_n 0, 1, 0, 0, []), (168, 0, .getfield 142, 3, 8, 56, [2, 0, 7005]), (171, 0, .iload_n 2, 1, 0, 0, []), (172, 0, .iaload, 1, 0, 0, []), (173, 0, .bipush 32, 2, 0, 0, []), (175, 0, .invokevirtual 913, 3, 329, 8, [11013]), (178, 0, .aload_n 0, 1, 0, 0, []), (179, 0, .aload_n 0, 1, 0, 0, []), (180, 0, .getfield 139, 3, 8, 55, [2, 0, 7004]), (183, 0, .iload_n 2, 1, 0, 0, []), (184, 0, .iaload, 1, 0, 0, []), (185, 0, .bipush 32, 2, 0, 0, []), (187, 0, .invokevirtual 913, 3, 329, 8, [11013]), (190, 0, .aload_n 0, 1, 0, 0, []), (191, 0, .aload_n 0, 1, 0, 0, []), (192, 0, .getfield 130, 3, 8, 52, [2, 0, 7001]), (195, 0, .iload_n 2, 1, 0, 0, []), (196, 0, .iaload, 1, 0, 0, []), (197, 0, .bipush 46, 2, 0, 0, []), (199, 0, .invokevirtual 913, 3, 329, 8, [11013]), (202, 0, .aload_n 0, 1, 0, 0, []), (203, 0, .aload_n 0, 1, 0, 0, []), (204, 0, .getfield 133, 3, 8, 53, [2, 0, 7002]), (207, 0, .iload_n 2, 1, 0, 0, []), (208, 0, .iaload, 1, 0, 0, []), (209, 0, .bipush 46, 2, 0, 0, []), (211, 0, .invokevirtual 913, 3, 329, 8, [11013]), (214, 0, .aload_n 0, 1, 0, 0, []), (215, 0, .aload_n 0, 1, 0, 0, []), (216, 0, .getfield 136, 3, 8, 54, [2, 0, 7003]), (219, 0, .iload_n 2, 1, 0, 0, []), (220, 0, .iaload, 1, 0, 0, []), (221, 0, .bipush 10, 2, 0, 0, []), (223, 0, .invokevirtual 913, 3, 329, 8, [11013]), (226, 0, .iinc 2 1, 3, 0, 0, []), (229, 0, .goto (-110), 3, 0, 0, []), (232, 0, .iconst 0, 1, 0, 0, []), (233, 0, .istore_n 2, 1, 0, 0, []), (234, 6, .iload_n 2, 1, 0, 0, []), (235, 0, .aload_n 0, 1, 0, 0, []), (236, 0, .getfield 489, 3, 8, 48, [0, 0, 6237]), (239, 0, .if_icmp .ge 127, 3, 0, 0, []), (242, 0, .aload_n 0, 1, 0, 0, []), (243, 0, .getfield 124, 3, 8, 49, [2, 0, 6238]), (246, 0, .iload_n 2, 1, 0, 0, []), (247, 0, .iaload, 1, 0, 0, []), (248, 0, .istore_n 3, 1, 0, 0, []), (249, 0, .aload_n 0, 1, 0, 0, []), (250, 0, .aload_n 0, 1, 0, 0, []), (251, 0, .getfield 519, 3, 8, 4, [0, 0, 6193]), (254, 0, .aload_n 0, 1, 0, 0, []), (255, 0, .getfield 78, 3, 8, 29, [2, 0, 6218]), (258, 0, .iload_n 3, 1, 0, 0, []), (259, 0, .laload, 1, 0, 0, []), (260, 0, .invokevirtual 904, 3, 325, 8, [10237]), (263, 0, .aload_n 0, 1, 0, 0, []), (264, 0, .getfield 14, 3, 8, 3, [2, 0, 6192]), (267, 0, .aload_n 0, 1, 0, 0, []), (268, 0, .getfield 519, 3, 8, 4, [0, 0, 6193]), (271, 0, .bipush 16, 2, 0, 0, []), (273, 0, .iadd, 1, 0, 0, []), (274, 0, .bipush 32, 2, 0, 0, []), (276, 0, .bastore, 1, 2, 0, []), (277, 0, .aload_n 0, 1, 0, 0, []), (278, 0, .dup, 1, 0, 0, []), (279, 0, .getfield 519, 3, 8, 4, [0, 0, 6193]), (282, 0, .bipush 17, 2, 0, 0, []), (284, 0, .iadd, 1, 0, 0, []), (285, 0, .putfield 519, 3, 8, 4, [0, 0, 6193]), (288, 0, .iconst 0, 1, 0, 0, []), (289, 0, .istore 4, 2, 0, 0, []), (291, 7, .iload 4, 2, 0, 0, []), (293, 0, .aload_n 0, 1, 0, 0, []), (294, 0, .getfield 57, 3, 8, 22, [2, 0, 6211]), (297, 0, .iload_n 3, 1, 0, 0, []), (298, 0, .iaload, 1, 0, 0, []), (299, 0, .if_icmp .ge 40, 3, 0, 0, []), (302, 0, .aload_n 0, 1, 0, 0, []), (303, 0, .getfield 14, 3, 8, 3, [2, 0, 6192]), (306, 0, .aload_n 0, 1, 0, 0, []), (307, 0, .getfield 519, 3, 8, 4, [0, 0, 6193]), (310, 0, .aload_n 0, 1, 0, 0, []), (311, 0, .getfield 54, 3, 8, 21, [2, 0, 6210]), (314, 0, .bipush 20, 2, 0, 0, []), (316, 0, .iload_n 3, 1, 0, 0, []), (317, 0, .imul, 1, 0, 0, []), (318, 0, .iload 4, 2, 0, 0, []), (320, 0, .iadd, 1, 0, 0, []), (321, 0, .baload, 1, 2, 0, []), (322, 0, .bastore, 1, 2, 0, []), (323, 0, .aload_n 0, 1, 0, 0, []), (324, 0, .dup, 1, 0, 0, []), (325, 0, .getfield 519, 3, 8, 4, [0, 0, 6193]), (328, 0, .iconst 1, 1, 0, 0, []), (329, 0, .iadd, 1, 0, 0, []), (330, 0, .putfield 519, 3, 8, 4, [0, 0, 6193]), (333, 0, .iinc 4 1, 3, 0, 0, []), (336, 0, .goto (-45), 3, 0, 0, []), (339, 0, .aload_n 0, 1, 0, 0, []), (340, 0, .getfield 14, 3, 8, 3, [2, 0, 6192]), (343, 0, .aload_n 0, 1, 0, 0, []), (344, 0, .getfield 519, 3, 8, 4, [0, 0, 6193]), (347, 0, .bipush 10, 2, 0, 0, []), (349, 0, .bastore, 1, 2, 0, []), (350, 0, .aload_n 0, 1, 0, 0, []), (351, 0, .dup, 1, 0, 0, []), (352, 0, .getfield 519, 3, 8, 4, [0, 0, 6193]), (355, 0, .iconst 1, 1, 0, 0, []), (356, 0, .iadd, 1, 0, 0, []), (357, 0, .putfield 519, 3, 8, 4, [0, 0, 6193]), (360, 0, .iinc 2 1, 3, 0, 0, []), (363, 0, .goto (-129), 3, 0, 0, []), (366, 0, .aload_n 0, 1, 0, 0, []), (367, 0, .getfield 519, 3, 8, 4, [0, 0, 6193]), (370, 0, .ireturn, 1, 0, 0, [])]
def m_Model_map : List aT := [(0, [(0, 2)], []), (13, [(0, 2)], [0, 2]), (26, [(0, 2), (1, 0), (2, 0)], []), (73, [(0, 2), (1, 0), (2, 0)], []), (119, [(0, 2), (2, 0)], []), (234, [(0, 2), (2, 0)], []), (291, [(0, 2), (2, 0), (3, 0), (4, 0)], [])]
def B_Model_map_0 (X : Nat → List Int → AMem → Prop) (Q : Int → AMem → Prop) (σ : AMem) : Prop :=
  (if (σ 9790 13) = 0 then
  X 1 [9790, 0, 9790] σ
  else
  X 1 [9790, 1, 9790] σ)
def B_Model_map_1 (X : Nat → List Int → AMem → Prop) (Q : Int → AMem → Prop) (s0 s1 : Int) (σ : AMem) : Prop :=
  (if ly_k s1 = 28 then T_Model_throwing [s1, s0, 0] σ (fun r1 σ2 => (if r1 = 0 then
  X 2 [9790, 0, 0] σ2
  else
  Q 0 σ2)) else False)
def B_Model_map_2 (X : Nat → List Int → AMem → Prop) (Q : Int → AMem → Prop) (x1 x2 : Int) (σ : AMem) : Prop :=
  (if x2 < (σ 9790 50) then
  0 ≤ x2 ∧ x2 < 1536 ∧ T_Model_wide [(σ 9832 x2)] σ (fun r1 σ2 => am_r32 (22 + r1) ∧ 0 ≤ x2 ∧ x2 < 1536 ∧ T_Model_wide [(σ2 9830 x2)] σ2 (fun r3 σ4 => am_r32 ((22 + r1) + r3) ∧ am_r32 (((22 + r1) + r3) + 1) ∧ am_r32 ((((22 + r1) + r3) + 1) + 1) ∧ am_r32 (((((22 + r1) + r3) + 1) + 1) + 1) ∧ am_r32 (x1 + (((((22 + r1) + r3) + 1) + 1) + 1)) ∧ am_let (x1 + (((((22 + r1) + r3) + 1) + 1) + 1)) (fun y5 => am_r32 (x2 + 1) ∧ X 2 [9790, y5, (x2 + 1)] σ4)))
  else
  X 3 [9790, x1, 0] σ)
def B_Model_map_3 (X : Nat → List Int → AMem → Prop) (Q : Int → AMem → Prop) (x1 x2 : Int) (σ : AMem) : Prop :=
  (if x2 < (σ 9790 48) then
  0 ≤ x2 ∧ x2 < 4096 ∧ 0 ≤ (σ 9826 x2) ∧ (σ 9826 x2) < 4096 ∧ am_r32 (18 + (σ 9804 (σ 9826 x2))) ∧ am_r32 (x1 + (18 + (σ 9804 (σ 9826 x2)))) ∧ am_let (x1 + (18 + (σ 9804 (σ 9826 x2)))) (fun y2 => am_r32 (x2 + 1) ∧ X 3 [9790, y2, (x2 + 1)] σ)
  else
  (if 65536 < x1 then
    Q (-1) σ
    else
    am_let (am_upd σ 9790 4 0) (fun σ1 => X 4 [9790, 0] σ1)))
def B_Model_map_4 (X : Nat → List Int → AMem → Prop) (Q : Int → AMem → Prop) (x2 : Int) (σ : AMem) : Prop :=
  (if x2 < (σ 9790 50) then
  0 ≤ x2 ∧ x2 < 1536 ∧ T_Model_sixteen [9790, (σ 9790 4), (σ 9833 x2)] σ (fun r1 σ2 => am_r32 ((σ2 9790 4) + 16) ∧ 0 ≤ ((σ2 9790 4) + 16) ∧ ((σ2 9790 4) + 16) < 65536 ∧ am_let (am_upd σ2 9792 ((σ2 9790 4) + 16) (w8 32)) (fun σ3 => am_r32 ((σ3 9790 4) + 17) ∧ am_let (am_upd σ3 9790 4 ((σ3 9790 4) + 17)) (fun σ4 => 0 ≤ x2 ∧ x2 < 1536 ∧ T_Model_sayNumber [9790, (σ4 9832 x2), 32] σ4 (fun r5 σ6 => 0 ≤ x2 ∧ x2 < 1536 ∧ T_Model_sayNumber [9790, (σ6 9831 x2), 32] σ6 (fun r7 σ8 => 0 ≤ x2 ∧ x2 < 1536 ∧ T_Model_sayNumber [9790, (σ8 9828 x2), 46] σ8 (fun r9 σ10 => 0 ≤ x2 ∧ x2 < 1536 ∧ T_Model_sayNumber [9790, (σ10 9829 x2), 46] σ10 (fun r11 σ12 => 0 ≤ x2 ∧ x2 < 1536 ∧ T_Model_sayNumber [9790, (σ12 9830 x2), 10] σ12 (fun r13 σ14 => am_r32 (x2 + 1) ∧ X 4 [9790, (x2 + 1)] σ14))))))))
  else
  X 5 [9790, 0] σ)
def B_Model_map_5 (X : Nat → List Int → AMem → Prop) (Q : Int → AMem → Prop) (x2 : Int) (σ : AMem) : Prop :=
  (if x2 < (σ 9790 48) then
  0 ≤ x2 ∧ x2 < 4096 ∧ 0 ≤ (σ 9826 x2) ∧ (σ 9826 x2) < 4096 ∧ T_Model_sixteen [9790, (σ 9790 4), (σ 9811 (σ 9826 x2))] σ (fun r1 σ2 => am_r32 ((σ2 9790 4) + 16) ∧ 0 ≤ ((σ2 9790 4) + 16) ∧ ((σ2 9790 4) + 16) < 65536 ∧ am_let (am_upd σ2 9792 ((σ2 9790 4) + 16) (w8 32)) (fun σ3 => am_r32 ((σ3 9790 4) + 17) ∧ am_let (am_upd σ3 9790 4 ((σ3 9790 4) + 17)) (fun σ4 => X 6 [9790, x2, (σ 9826 x2), 0] σ4)))
  else
  Q (σ 9790 4) σ)
def B_Model_map_6 (X : Nat → List Int → AMem → Prop) (Q : Int → AMem → Prop) (x2 x3 x4 : Int) (σ : AMem) : Prop :=
  0 ≤ x3 ∧ x3 < 4096 ∧ (if x4 < (σ 9804 x3) then
  am_r32 (20 * x3) ∧ am_r32 ((20 * x3) + x4) ∧ 0 ≤ ((20 * x3) + x4) ∧ ((20 * x3) + x4) < 81920 ∧ 0 ≤ (σ 9790 4) ∧ (σ 9790 4) < 65536 ∧ am_let (am_upd σ 9792 (σ 9790 4) (w8 (σ 9803 ((20 * x3) + x4)))) (fun σ3 => am_r32 ((σ3 9790 4) + 1) ∧ am_let (am_upd σ3 9790 4 ((σ3 9790 4) + 1)) (fun σ4 => am_r32 (x4 + 1) ∧ X 6 [9790, x2, x3, (x4 + 1)] σ4))
  else
  0 ≤ (σ 9790 4) ∧ (σ 9790 4) < 65536 ∧ am_let (am_upd σ 9792 (σ 9790 4) (w8 10)) (fun σ1 => am_r32 ((σ1 9790 4) + 1) ∧ am_let (am_upd σ1 9790 4 ((σ1 9790 4) + 1)) (fun σ2 => am_r32 (x2 + 1) ∧ X 5 [9790, (x2 + 1)] σ2)))
def B_Model_map : (Nat → List Int → AMem → Prop) → (Int → AMem → Prop) → Nat → List Int → AMem → Prop := fun X Q j v σ => am_sel [(am_v1 (fun t σ => if t = 9790 then B_Model_map_0 X Q σ else False)), (am_v3 (fun t s0 s1 σ => if t = 9790 then B_Model_map_1 X Q s0 s1 σ else False)), (am_v3 (fun t x1 x2 σ => if t = 9790 then B_Model_map_2 X Q x1 x2 σ else False)), (am_v3 (fun t x1 x2 σ => if t = 9790 then B_Model_map_3 X Q x1 x2 σ else False)), (am_v2 (fun t x2 σ => if t = 9790 then B_Model_map_4 X Q x2 σ else False)), (am_v2 (fun t x2 σ => if t = 9790 then B_Model_map_5 X Q x2 σ else False)), (am_v4 (fun t x2 x3 x4 σ => if t = 9790 then B_Model_map_6 X Q x2 x3 x4 σ else False))] j v σ
def T_Model_map : List Int → AMem → (Int → AMem → Prop) → Prop := am_T B_Model_map
abbrev y_Model_map : MethodName := ⟨"LinkHouseModel", "map", "()I"⟩
def a_Model_map : AC := (330, (y_Model_map, prog_10_method_152_code, 5, (Option.some Jvm.ClassFile.FieldType.int)), [2], 0, false, { frames := 2, cells := 0, slots := 0, locals := 62 }, T_Model_map)
set_option maxRecDepth 100000 in
theorem ms_Model_map : am_MSp a_Model_map := am_ms_v 11009 9 11007 11008 8 rfl (by decide +kernel)
abbrev k_Model_map : List AC := [a_Model_throwing, a_Model_wide, a_Model_sixteen, a_Model_sayNumber]
set_option maxRecDepth 100000 in
theorem s_Model_map : (am_chkR { frames := 2, cells := 0, slots := 0, locals := 62 } k_Model_map && am_chkN c_Model_map { frames := 2, cells := 0, slots := 0, locals := 62 } && c_Model_map.all (am_chk "LinkHouseModel" prog_10_method_152_code 5 (Option.some Jvm.ClassFile.FieldType.int) k_Model_map) && c_Model_map.all (am_chkL m_Model_map) && decide (m_Model_map[0]? = some (0, am_argp 0 [2], [])) && decide (am_argn [2] ≤ 5)) = true := by decide +kernel
set_option maxHeartbeats 150000 in
set_option maxRecDepth 100000 in
theorem h_Model_map : ∀ X Q j v σ, B_Model_map X Q j v σ → am_at GR k_Model_map c_Model_map m_Model_map X Q 221 j v σ := fun X Q => am_sel_all (P := fun j v σ => am_at GR k_Model_map c_Model_map m_Model_map X Q 221 j v σ) (⟨(am_v1_of (fun t σ h => am_tk (fun e => by subst e; exact fun h => h) h)), ⟨(am_v3_of (fun t s0 s1 σ h => am_tk (fun e => by subst e; exact fun h => h) h)), ⟨(am_v3_of (fun t x1 x2 σ h => am_tk (fun e => by subst e; exact fun h => h) h)), ⟨(am_v3_of (fun t x1 x2 σ h => am_tk (fun e => by subst e; exact fun h => h) h)), ⟨(am_v2_of (fun t x2 σ h => am_tk (fun e => by subst e; exact fun h => h) h)), ⟨(am_v2_of (fun t x2 σ h => am_tk (fun e => by subst e; exact fun h => h) h)), ⟨(am_v4_of (fun t x2 x3 x4 σ h => am_tk (fun e => by subst e; exact fun h => h) h)), trivial⟩⟩⟩⟩⟩⟩⟩)
set_option maxRecDepth 100000 in
theorem S_Model_map (l : Launch) (w : AW) : am_S l w GR a_Model_map := am_sound (rt := 0) (cal := k_Model_map) 330 y_Model_map prog_10_method_152_code 5 (Option.some Jvm.ClassFile.FieldType.int) [2] false { frames := 2, cells := 0, slots := 0, locals := 62 } B_Model_map "LinkHouseModel" c_Model_map m_Model_map 221 ms_Model_map (by decide +kernel) rfl rfl (am_cal (S_Model_throwing l w) (am_cal (S_Model_wide l w) (am_cal (S_Model_sixteen l w) (am_cal (S_Model_sayNumber l w) (fun _ h => absurd h List.not_mem_nil))))) s_Model_map h_Model_map
set_option maxRecDepth 100000 in
theorem of_Model_map {Q : Int → AMem → Prop} {σ : AMem} (h : ∀ X : Nat → List Int → AMem → Prop, (∀ (σ : AMem), B_Model_map_0 X Q σ → X 0 [9790] σ) → (∀ (s0 s1 : Int) (σ : AMem), B_Model_map_1 X Q s0 s1 σ → X 1 [9790, s0, s1] σ) → (∀ (x1 x2 : Int) (σ : AMem), B_Model_map_2 X Q x1 x2 σ → X 2 [9790, x1, x2] σ) → (∀ (x1 x2 : Int) (σ : AMem), B_Model_map_3 X Q x1 x2 σ → X 3 [9790, x1, x2] σ) → (∀ (x2 : Int) (σ : AMem), B_Model_map_4 X Q x2 σ → X 4 [9790, x2] σ) → (∀ (x2 : Int) (σ : AMem), B_Model_map_5 X Q x2 σ → X 5 [9790, x2] σ) → (∀ (x2 x3 x4 : Int) (σ : AMem), B_Model_map_6 X Q x2 x3 x4 σ → X 6 [9790, x2, x3, x4] σ) → X 0 [9790] σ) : T_Model_map [9790] σ Q := fun X hX => h X (fun σ h => hX 0 [9790] σ h) (fun s0 s1 σ h => hX 1 [9790, s0, s1] σ h) (fun x1 x2 σ h => hX 2 [9790, x1, x2] σ h) (fun x1 x2 σ h => hX 3 [9790, x1, x2] σ h) (fun x2 σ h => hX 4 [9790, x2] σ h) (fun x2 σ h => hX 5 [9790, x2] σ h) (fun x2 x3 x4 σ h => hX 6 [9790, x2, x3, x4] σ h)
def c_Model_triedNum : List aE := [(0, 1, .lconst 0, 1, 0, 0, []), (1, 0, .lstore_n 3, 1, 0, 0, []), (2, 0, .iload_n 2, 1, 0, 0, []), (3, 0, .iconst 1, 1, 0, 0, []), (4, 0, .isub, 1, 0, 0, []), (5, 0, .istore 5, 2, 0, 0, []), (7, 2, .iload 5, 2, 0, 0, []), (9, 0, .ifCond .lt 29, 3, 0, 0, []), (12, 0, .lload_n 3, 1, 0, 0, []), (13, 0, .bipush 8, 2, 0, 0, []), (15, 0, .lshl, 1, 0, 0, []), (16, 0, .aload_n 0, 1, 0, 0, []), (17, 0, .getfield 218, 3, 8, 99, [2, 0, 7048]), (20, 0, .iload_n 1, 1, 0, 0, []), (21, 0, .iload 5, 2, 0, 0, []), (23, 0, .iadd, 1, 0, 0, []), (24, 0, .baload, 1, 2, 0, []), (25, 0, .sipush 255, 3, 0, 0, []), (28, 0, .iand, 1, 0, 0, []), (29, 0, .i2l, 1, 0, 0, []), (30, 0, .lor, 1, 0, 0, []), (31, 0, .lstore_n 3, 1, 0, 0, []), (32, 0, .iinc 5 (-1), 3, 0, 0, []), (35, 0, .goto (-28), 3, 0, 0, []), (38, 0, .lload_n 3, 1, 0, 0, []), (39, 0, .lreturn, 1, 0, 0, [])]
def m_Model_triedNum : List aT := [(0, [(0, 2), (1, 0), (2, 0)], []), (7, [(0, 2), (1, 0), (3, 1), (5, 0)], [])]
def B_Model_triedNum_0 (X : Nat → List Int → AMem → Prop) (Q : Int → AMem → Prop) (x1 x2 : Int) (σ : AMem) : Prop :=
  am_r32 (x2 - 1) ∧ X 1 [9790, x1, 0, (x2 - 1)] σ
def B_Model_triedNum_1 (X : Nat → List Int → AMem → Prop) (Q : Int → AMem → Prop) (x1 x3 x5 : Int) (σ : AMem) : Prop :=
  (if x5 < 0 then
  Q x3 σ
  else
  am_r32 (x1 + x5) ∧ 0 ≤ (x1 + x5) ∧ (x1 + x5) < 65536 ∧ am_let (l_or (l_shl x3 8) (i_and (σ 9857 (x1 + x5)) 255)) (fun y1 => am_r32 (x5 + (-1)) ∧ X 1 [9790, x1, y1, (x5 + (-1))] σ))
def B_Model_triedNum : (Nat → List Int → AMem → Prop) → (Int → AMem → Prop) → Nat → List Int → AMem → Prop := fun X Q j v σ => am_sel [(am_v3 (fun t x1 x2 σ => if t = 9790 then B_Model_triedNum_0 X Q x1 x2 σ else False)), (am_v4 (fun t x1 x3 x5 σ => if t = 9790 then B_Model_triedNum_1 X Q x1 x3 x5 σ else False))] j v σ
def T_Model_triedNum : List Int → AMem → (Int → AMem → Prop) → Prop := am_T B_Model_triedNum
abbrev y_Model_triedNum : MethodName := ⟨"LinkHouseModel", "triedNum", "(II)J"⟩
def a_Model_triedNum : AC := (331, (y_Model_triedNum, prog_10_method_153_code, 6, (Option.some Jvm.ClassFile.FieldType.long)), [2, 0, 0], 1, false, { frames := 0, cells := 0, slots := 0, locals := 0 }, T_Model_triedNum)
set_option maxRecDepth 100000 in
theorem ms_Model_triedNum : am_MSp a_Model_triedNum := am_ms_v 11032 9 11031 113014 8 rfl (by decide +kernel)
abbrev k_Model_triedNum : List AC := []
set_option maxRecDepth 100000 in
theorem s_Model_triedNum : (am_chkR { frames := 0, cells := 0, slots := 0, locals := 0 } k_Model_triedNum && am_chkN c_Model_triedNum { frames := 0, cells := 0, slots := 0, locals := 0 } && c_Model_triedNum.all (am_chk "LinkHouseModel" prog_10_method_153_code 6 (Option.some Jvm.ClassFile.FieldType.long) k_Model_triedNum) && c_Model_triedNum.all (am_chkL m_Model_triedNum) && decide (m_Model_triedNum[0]? = some (0, am_argp 0 [2, 0, 0], [])) && decide (am_argn [2, 0, 0] ≤ 6)) = true := by decide +kernel
set_option maxHeartbeats 150000 in
set_option maxRecDepth 100000 in
theorem h_Model_triedNum : ∀ X Q j v σ, B_Model_triedNum X Q j v σ → am_at GR k_Model_triedNum c_Model_triedNum m_Model_triedNum X Q 31 j v σ := fun X Q => am_sel_all (P := fun j v σ => am_at GR k_Model_triedNum c_Model_triedNum m_Model_triedNum X Q 31 j v σ) (⟨(am_v3_of (fun t x1 x2 σ h => am_tk (fun e => by subst e; exact fun h => h) h)), ⟨(am_v4_of (fun t x1 x3 x5 σ h => am_tk (fun e => by subst e; exact fun h => h) h)), trivial⟩⟩)
set_option maxRecDepth 100000 in
theorem S_Model_triedNum (l : Launch) (w : AW) : am_S l w GR a_Model_triedNum := am_sound (rt := 1) (cal := k_Model_triedNum) 331 y_Model_triedNum prog_10_method_153_code 6 (Option.some Jvm.ClassFile.FieldType.long) [2, 0, 0] false { frames := 0, cells := 0, slots := 0, locals := 0 } B_Model_triedNum "LinkHouseModel" c_Model_triedNum m_Model_triedNum 31 ms_Model_triedNum (by decide +kernel) rfl rfl (fun _ h => absurd h List.not_mem_nil) s_Model_triedNum h_Model_triedNum
set_option maxRecDepth 100000 in
theorem of_Model_triedNum {Q : Int → AMem → Prop} {x1 x2 : Int} {σ : AMem} (h : ∀ X : Nat → List Int → AMem → Prop, (∀ (x1 x2 : Int) (σ : AMem), B_Model_triedNum_0 X Q x1 x2 σ → X 0 [9790, x1, x2] σ) → (∀ (x1 x3 x5 : Int) (σ : AMem), B_Model_triedNum_1 X Q x1 x3 x5 σ → X 1 [9790, x1, x3, x5] σ) → X 0 [9790, x1, x2] σ) : T_Model_triedNum [9790, x1, x2] σ Q := fun X hX => h X (fun x1 x2 σ h => hX 0 [9790, x1, x2] σ h) (fun x1 x3 x5 σ h => hX 1 [9790, x1, x3, x5] σ h)
def c_Model_isExecutable : List aE := [(0, 1, .aload_n 0, 1, 0, 0, []), (1, 0, .getfield 916, 3, 8, 101, [0, 0, 7050]), (4, 0, .bipush 63, 2, 0, 0, []), (6, 0, .if_icmp .le 49, 3, 0, 0, []), (9, 0, .aload_n 0, 1, 0, 0, []), (10, 0, .iconst 0, 1, 0, 0, []), (11, 0, .bipush 7, 2, 0, 0, []), (13, 0, .invokevirtual 919, 3, 331, 8, [11029]), (16, 0, .ldc2_w 337, 3, 282584257676671, 0, [8133]), (19, 0, .lcmp, 1, 0, 0, []), (20, 0, .ifCond .ne 35, 3, 0, 0, []), (23, 0, .aload_n 0, 1, 0, 0, []), (24, 0, .bipush 16, 2, 0, 0, []), (26, 0, .iconst 2, 1, 0, 0, []), (27, 0, .invokevirtual 919, 3, 331, 8, [11029]), (30, 0, .ldc2_w 307, 3, 2, 0, [8172]), (33, 0, .lcmp, 1, 0, 0, []), (34, 0, .ifCond .ne 21, 3, 0, 0, []), (37, 0, .aload_n 0, 1, 0, 0, []), (38, 0, .bipush 18, 2, 0, 0, []), (40, 0, .iconst 2, 1, 0, 0, []), (41, 0, .invokevirtual 919, 3, 331, 8, [11029]), (44, 0, .ldc2_w 339, 3, 62, 0, [8134]), (47, 0, .lcmp, 1, 0, 0, []), (48, 0, .ifCond .ne 7, 3, 0, 0, []), (51, 0, .iconst 1, 1, 0, 0, []), (52, 0, .goto 4, 3, 0, 0, []), (55, 2, .iconst 0, 1, 0, 0, []), (56, 3, .istore_n 1, 1, 0, 0, []), (57, 0, .iload_n 1, 1, 0, 0, []), (58, 0, .ifCond .eq 33, 3, 0, 0, []), (61, 0, .aload_n 0, 1, 0, 0, []), (62, 0, .bipush 20, 2, 0, 0, []), (64, 0, .iconst 4, 1, 0, 0, []), (65, 0, .invokevirtual 919, 3, 331, 8, [11029]), (68, 0, .lconst 1, 1, 0, 0, []), (69, 0, .lcmp, 1, 0, 0, []), (70, 0, .ifCond .ne 21, 3, 0, 0, []), (73, 0, .aload_n 0, 1, 0, 0, []), (74, 0, .bipush 54, 2, 0, 0, []), (76, 0, .iconst 2, 1, 0, 0, []), (77, 0, .invokevirtual 919, 3, 331, 8, [11029]), (80, 0, .ldc2_w 699, 3, 56, 0, [10021]), (83, 0, .lcmp, 1, 0, 0, []), (84, 0, .ifCond .ne 7, 3, 0, 0, []), (87, 0, .iconst 1, 1, 0, 0, []), (88, 0, .goto 4, 3, 0, 0, []), (91, 0, .iconst 0, 1, 0, 0, []), (92, 0, .ireturn, 1, 1, 0, [])]
def m_Model_isExecutable : List aT := [(0, [(0, 2)], []), (55, [(0, 2)], []), (56, [(0, 2)], [0])]
def B_Model_isExecutable_0 (X : Nat → List Int → AMem → Prop) (Q : Int → AMem → Prop) (σ : AMem) : Prop :=
  (if 63 < (σ 9790 101) then
  T_Model_triedNum [9790, 0, 7] σ (fun r1 σ2 => (if r1 = 282584257676671 then
    T_Model_triedNum [9790, 16, 2] σ2 (fun r3 σ4 => (if r3 = 2 then
      T_Model_triedNum [9790, 18, 2] σ4 (fun r5 σ6 => (if r5 = 62 then
        X 2 [9790, 1] σ6
        else
        X 1 [9790] σ6))
      else
      X 1 [9790] σ4))
    else
    X 1 [9790] σ2))
  else
  X 1 [9790] σ)
def B_Model_isExecutable_1 (X : Nat → List Int → AMem → Prop) (Q : Int → AMem → Prop) (σ : AMem) : Prop :=
  X 2 [9790, 0] σ
def B_Model_isExecutable_2 (X : Nat → List Int → AMem → Prop) (Q : Int → AMem → Prop) (s0 : Int) (σ : AMem) : Prop :=
  (if s0 = 0 then
  Q 0 σ
  else
  T_Model_triedNum [9790, 20, 4] σ (fun r1 σ2 => (if r1 = 1 then
    T_Model_triedNum [9790, 54, 2] σ2 (fun r3 σ4 => (if r3 = 56 then
      Q 1 σ4
      else
      Q 0 σ4))
    else
    Q 0 σ2)))
def B_Model_isExecutable : (Nat → List Int → AMem → Prop) → (Int → AMem → Prop) → Nat → List Int → AMem → Prop := fun X Q j v σ => am_sel [(am_v1 (fun t σ => if t = 9790 then B_Model_isExecutable_0 X Q σ else False)), (am_v1 (fun t σ => if t = 9790 then B_Model_isExecutable_1 X Q σ else False)), (am_v2 (fun t s0 σ => if t = 9790 then B_Model_isExecutable_2 X Q s0 σ else False))] j v σ
def T_Model_isExecutable : List Int → AMem → (Int → AMem → Prop) → Prop := am_T B_Model_isExecutable
abbrev y_Model_isExecutable : MethodName := ⟨"LinkHouseModel", "isExecutable", "()Z"⟩
def a_Model_isExecutable : AC := (332, (y_Model_isExecutable, prog_10_method_154_code, 2, (Option.some Jvm.ClassFile.FieldType.boolean)), [2], 0, false, { frames := 1, cells := 0, slots := 0, locals := 33 }, T_Model_isExecutable)
set_option maxRecDepth 100000 in
theorem ms_Model_isExecutable : am_MSp a_Model_isExecutable := am_ms_v 11028 9 11027 113013 8 rfl (by decide +kernel)
abbrev k_Model_isExecutable : List AC := [a_Model_triedNum]
set_option maxRecDepth 100000 in
theorem s_Model_isExecutable : (am_chkR { frames := 1, cells := 0, slots := 0, locals := 33 } k_Model_isExecutable && am_chkN c_Model_isExecutable { frames := 1, cells := 0, slots := 0, locals := 33 } && c_Model_isExecutable.all (am_chk "LinkHouseModel" prog_10_method_154_code 2 (Option.some Jvm.ClassFile.FieldType.boolean) k_Model_isExecutable) && c_Model_isExecutable.all (am_chkL m_Model_isExecutable) && decide (m_Model_isExecutable[0]? = some (0, am_argp 0 [2], [])) && decide (am_argn [2] ≤ 2)) = true := by decide +kernel
set_option maxHeartbeats 150000 in
set_option maxRecDepth 100000 in
theorem h_Model_isExecutable : ∀ X Q j v σ, B_Model_isExecutable X Q j v σ → am_at GR k_Model_isExecutable c_Model_isExecutable m_Model_isExecutable X Q 54 j v σ := fun X Q => am_sel_all (P := fun j v σ => am_at GR k_Model_isExecutable c_Model_isExecutable m_Model_isExecutable X Q 54 j v σ) (⟨(am_v1_of (fun t σ h => am_tk (fun e => by subst e; exact fun h => h) h)), ⟨(am_v1_of (fun t σ h => am_tk (fun e => by subst e; exact fun h => h) h)), ⟨(am_v2_of (fun t s0 σ h => am_tk (fun e => by subst e; exact fun h => h) h)), trivial⟩⟩⟩)
set_option maxRecDepth 100000 in
theorem S_Model_isExecutable (l : Launch) (w : AW) : am_S l w GR a_Model_isExecutable := am_sound (rt := 0) (cal := k_Model_isExecutable) 332 y_Model_isExecutable prog_10_method_154_code 2 (Option.some Jvm.ClassFile.FieldType.boolean) [2] false { frames := 1, cells := 0, slots := 0, locals := 33 } B_Model_isExecutable "LinkHouseModel" c_Model_isExecutable m_Model_isExecutable 54 ms_Model_isExecutable (by decide +kernel) rfl rfl (am_cal (S_Model_triedNum l w) (fun _ h => absurd h List.not_mem_nil)) s_Model_isExecutable h_Model_isExecutable
set_option maxRecDepth 100000 in
theorem of_Model_isExecutable {Q : Int → AMem → Prop} {σ : AMem} (h : ∀ X : Nat → List Int → AMem → Prop, (∀ (σ : AMem), B_Model_isExecutable_0 X Q σ → X 0 [9790] σ) → (∀ (σ : AMem), B_Model_isExecutable_1 X Q σ → X 1 [9790] σ) → (∀ (s0 : Int) (σ : AMem), B_Model_isExecutable_2 X Q s0 σ → X 2 [9790, s0] σ) → X 0 [9790] σ) : T_Model_isExecutable [9790] σ Q := fun X hX => h X (fun σ h => hX 0 [9790] σ h) (fun σ h => hX 1 [9790] σ h) (fun s0 σ h => hX 2 [9790, s0] σ h)
