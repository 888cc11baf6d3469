/-! methods: printed by gen/all.py -/
def c_Loader_boot : List aE := [(0, 1, .aload_n 0, 1, 0, 0, []), (1, 0, .aload_n 1, 1, 0, 0, []), (2, 0, .putfield 52, 3, 1, 13, [2, 0, 50]), (5, 0, .aload_n 0, 1, 0, 0, []), (6, 0, .iload_n 2, 1, 0, 0, []), (7, 0, .putfield 57, 3, 1, 10, [0, 0, 46]), (10, 0, .aload_n 0, 1, 0, 0, []), (11, 0, .iconst 0, 1, 0, 0, []), (12, 0, .putfield 61, 3, 1, 11, [0, 0, 47]), (15, 0, .aload_n 0, 1, 0, 0, []), (16, 0, .getfield 57, 3, 1, 10, [0, 0, 46]), (19, 0, .bipush 64, 2, 0, 0, []), (21, 0, .if_icmp .lt 75, 3, 0, 0, []), (24, 0, .aload_n 0, 1, 0, 0, []), (25, 0, .lconst 0, 1, 0, 0, []), (26, 0, .bipush 7, 2, 0, 0, []), (28, 0, .invokevirtual 64, 3, 124, 1, [5018]), (31, 0, .ldc2_w 68, 3, 282584257676671, 0, [5023]), (34, 0, .lcmp, 1, 0, 0, []), (35, 0, .ifCond .ne 61, 3, 0, 0, []), (38, 0, .aload_n 0, 1, 0, 0, []), (39, 0, .ldc2_w 70, 3, 16, 0, [5024]), (42, 0, .iconst 2, 1, 0, 0, []), (43, 0, .invokevirtual 64, 3, 124, 1, [5018]), (46, 0, .ldc2_w 72, 3, 2, 0, [5025]), (49, 0, .lcmp, 1, 0, 0, []), (50, 0, .ifCond .ne 46, 3, 0, 0, []), (53, 0, .aload_n 0, 1, 0, 0, []), (54, 0, .ldc2_w 74, 3, 18, 0, [5026]), (57, 0, .iconst 2, 1, 0, 0, []), (58, 0, .invokevirtual 64, 3, 124, 1, [5018]), (61, 0, .ldc2_w 76, 3, 62, 0, [5027]), (64, 0, .lcmp, 1, 0, 0, []), (65, 0, .ifCond .ne 31, 3, 0, 0, []), (68, 0, .aload_n 0, 1, 0, 0, []), (69, 0, .ldc2_w 78, 3, 20, 0, [5028]), (72, 0, .iconst 4, 1, 0, 0, []), (73, 0, .invokevirtual 64, 3, 124, 1, [5018]), (76, 0, .lconst 1, 1, 0, 0, []), (77, 0, .lcmp, 1, 0, 0, []), (78, 0, .ifCond .ne 18, 3, 0, 0, []), (81, 0, .aload_n 0, 1, 0, 0, []), (82, 0, .ldc2_w 80, 3, 54, 0, [5029]), (85, 0, .iconst 2, 1, 0, 0, []), (86, 0, .invokevirtual 64, 3, 124, 1, [5018]), (89, 0, .ldc2_w 82, 3, 56, 0, [5030]), (92, 0, .lcmp, 1, 0, 0, []), (93, 0, .ifCond .eq 5, 3, 0, 0, []), (96, 0, .iconst 1, 1, 0, 0, []), (97, 0, .ireturn, 1, 0, 0, []), (98, 0, .aload_n 0, 1, 0, 0, []), (99, 0, .ldc2_w 84, 3, 32, 0, [5031]), (102, 0, .bipush 8, 2, 0, 0, []), (104, 0, .invokevirtual 64, 3, 124, 1, [5018]), (107, 0, .lstore_n 3, 1, 0, 0, []), (108, 0, .aload_n 0, 1, 0, 0, []), (109, 0, .ldc2_w 82, 3, 56, 0, [5030]), (112, 0, .iconst 2, 1, 0, 0, []), (113, 0, .invokevirtual 64, 3, 124, 1, [5018]), (116, 0, .lstore 5, 2, 0, 0, []), (118, 0, .lload 5, 2, 0, 0, []), (120, 0, .ldc2_w 86, 3, 8, 0, [5032]), (123, 0, .lcmp, 1, 0, 0, []), (124, 0, .ifCond .gt 17, 3, 0, 0, []), (127, 0, .aload_n 0, 1, 0, 0, []), (128, 0, .lload_n 3, 1, 0, 0, []), (129, 0, .ldc2_w 82, 3, 56, 0, [5030]), (132, 0, .lload 5, 2, 0, 0, []), (134, 0, .lmul, 1, 0, 0, []), (135, 0, .invokevirtual 88, 3, 125, 1, [5033]), (138, 0, .ifCond .ne 5, 3, 0, 0, []), (141, 0, .iconst 2, 1, 0, 0, []), (142, 0, .ireturn, 1, 0, 0, []), (143, 0, .iconst 0, 1, 0, 0, []), (144, 0, .istore 7, 2, 0, 0, []), (146, 2, .iload 7, 2, 0, 0, []), (148, 0, .i2l, 1, 0, 0, []), (149, 0, .lload 5, 2, 0, 0, []), (151, 0, .lcmp, 1, 0, 0, []), (152, 0, .ifCond .ge 64, 3, 0, 0, []), (155, 0, .aload_n 0, 1, 0, 0, []), (156, 0, .lload_n 3, 1, 0, 0, []), (157, 0, .ldc2_w 82, 3, 56, 0, [5030]), (160, 0, .iload 7, 2, 0, 0, []), (162, 0, .i2l, 1, 0, 0, []), (163, 0, .lmul, 1, 0, 0, []), (164, 0, .ladd, 1, 0, 0, []), (165, 0, .iconst 4, 1, 0, 0, []), (166, 0, .invokevirtual 64, 3, 124, 1, [5018]), (169, 0, .lconst 1, 1, 0, 0, []), (170, 0, .lcmp, 1, 0, 0, []), (171, 0, .ifCond .eq 6, 3, 0, 0, []), (174, 0, .goto 36, 3, 0, 0, []), (177, 0, .aload_n 0, 1, 0, 0, []), (178, 0, .lload_n 3, 1, 0, 0, []), (179, 0, .ldc2_w 82, 3, 56, 0, [5030]), (182, 0, .iload 7, 2, 0, 0, []), (184, 0, .i2l, 1, 0, 0, []), (185, 0, .lmul, 1, 0, 0, []), (186, 0, .ladd, 1, 0, 0, []), (187, 0, .invokevirtual 92, 3, 126, 1, [5037]), (190, 0, .istore 8, 2, 0, 0, []), (192, 0, .iload 8, 2, 0, 0, []), (194, 0, .ifCond .le 6, 3, 0, 0, []), (197, 0, .iload 8, 2, 0, 0, []), (199, 0, .ireturn, 1, 0, 0, []), (200, 0, .aload_n 0, 1, 0, 0, []), (201, 0, .dup, 1, 0, 0, []), (202, 0, .getfield 61, 3, 1, 11, [0, 0, 47]), (205, 0, .iconst 1, 1, 0, 0, []), (206, 0, .iadd, 1, 0, 0, []), (207, 0, .putfield 61, 3, 1, 11, [0, 0, 47]), (210, 3, .iinc 7 1, 3, 0, 0, []), (213, 0, .goto (-67), 3, 0, 0, []), (216, 0, .aload_n 0, 1, 0, 0, []), (217, 0, .aload_n 0, 1, 0, 0, []), (218, 0, .ldc2_w 96, 3, 24, 0, [5046]), (221, 0, .bipush 8, 2, 0, 0, []), (223, 0, .invokevirtual 64, 3, 124, 1, [5018]), (226, 0, .invokevirtual 98, 3, 127, 1, [5047]), (229, 0, .ifCond .ne 6, 3, 0, 0, []), (232, 0, .bipush 6, 2, 0, 0, []), (234, 0, .ireturn, 1, 0, 0, []), (235, 0, .aload_n 0, 1, 0, 0, []), (236, 0, .invokevirtual 102, 3, 129, 1, [5051]), (239, 0, .aload_n 0, 1, 0, 0, []), (240, 0, .invokevirtual 105, 3, 130, 1, [5065]), (243, 0, .ireturn, 1, 0, 0, [])]
def m_Loader_boot : List aT := [(0, [(0, 2), (1, 2), (2, 0)], []), (146, [(0, 2), (3, 1), (5, 1), (7, 0)], []), (210, [(0, 2), (3, 1), (5, 1), (7, 0)], [])]
def B_Loader_boot_0 (X : Nat → List Int → AMem → Prop) (Q : Int → AMem → Prop) (x1 x2 : Int) (σ : AMem) : Prop :=
  am_let (am_upd σ 2 13 x1) (fun σ1 => am_let (am_upd σ1 2 10 x2) (fun σ2 => am_let (am_upd σ2 2 11 0) (fun σ3 => (if (σ3 2 10) < 64 then
  Q 1 σ3
  else
  T_Loader_number [2, 0, 7] σ3 (fun r4 σ5 => (if r4 = 282584257676671 then
    T_Loader_number [2, 16, 2] σ5 (fun r6 σ7 => (if r6 = 2 then
      T_Loader_number [2, 18, 2] σ7 (fun r8 σ9 => (if r8 = 62 then
        T_Loader_number [2, 20, 4] σ9 (fun r10 σ11 => (if r10 = 1 then
          T_Loader_number [2, 54, 2] σ11 (fun r12 σ13 => (if r12 = 56 then
            T_Loader_number [2, 32, 8] σ13 (fun r14 σ15 => T_Loader_number [2, 56, 2] σ15 (fun r16 σ17 => (if 8 < r16 then
              Q 2 σ17
              else
              T_Loader_lies [2, r14, (w64 (56 * r16))] σ17 (fun r18 σ19 => (if r18 = 0 then
                Q 2 σ19
                else
                X 1 [2, r14, r16, 0] σ19)))))
            else
            Q 1 σ13))
          else
          Q 1 σ11))
        else
        Q 1 σ9))
      else
      Q 1 σ7))
    else
    Q 1 σ5))))))
def B_Loader_boot_1 (X : Nat → List Int → AMem → Prop) (Q : Int → AMem → Prop) (x3 x5 x7 : Int) (σ : AMem) : Prop :=
  (if x7 < x5 then
  T_Loader_number [2, (w64 (x3 + (w64 (56 * x7)))), 4] σ (fun r9 σ10 => (if r9 = 1 then
    T_Loader_load [2, (w64 (x3 + (w64 (56 * x7))))] σ10 (fun r11 σ12 => (if 0 < r11 then
      Q r11 σ12
      else
      am_r32 ((σ12 2 11) + 1) ∧ am_let (am_upd σ12 2 11 ((σ12 2 11) + 1)) (fun σ13 => X 2 [2, x3, x5, x7] σ13)))
    else
    X 2 [2, x3, x5, x7] σ10))
  else
  T_Loader_number [2, 24, 8] σ (fun r1 σ2 => T_Loader_isEntry [2, r1] σ2 (fun r3 σ4 => (if r3 = 0 then
    Q 6 σ4
    else
    T_Loader_findNames [2] σ4 (fun r5 σ6 => T_Loader_keep [2] σ6 (fun r7 σ8 => Q r7 σ8))))))
def B_Loader_boot_2 (X : Nat → List Int → AMem → Prop) (Q : Int → AMem → Prop) (x3 x5 x7 : Int) (σ : AMem) : Prop :=
  am_r32 (x7 + 1) ∧ X 1 [2, x3, x5, (x7 + 1)] σ
def B_Loader_boot : (Nat → List Int → AMem → Prop) → (Int → AMem → Prop) → Nat → List Int → AMem → Prop := fun X Q j v σ => am_sel [(am_v3 (fun t x1 x2 σ => if t = 2 then B_Loader_boot_0 X Q x1 x2 σ else False)), (am_v4 (fun t x3 x5 x7 σ => if t = 2 then B_Loader_boot_1 X Q x3 x5 x7 σ else False)), (am_v4 (fun t x3 x5 x7 σ => if t = 2 then B_Loader_boot_2 X Q x3 x5 x7 σ else False))] j v σ
def T_Loader_boot : List Int → AMem → (Int → AMem → Prop) → Prop := am_T B_Loader_boot
abbrev y_Loader_boot : MethodName := ⟨"LinkHouse$Loader", "boot", "([BI)I"⟩
def a_Loader_boot : AC := (131, (y_Loader_boot, prog_3_method_4_code, 9, (Option.some Jvm.ClassFile.FieldType.int)), [2, 2, 0], 0, false, { frames := 3, cells := 0, slots := 0, locals := 118 }, T_Loader_boot)
set_option maxRecDepth 100000 in
theorem ms_Loader_boot : am_MSp a_Loader_boot := am_ms_v 5017 2 5015 5016 1 rfl (by decide +kernel)
abbrev k_Loader_boot : List AC := [a_Loader_number, a_Loader_lies, a_Loader_load, a_Loader_isEntry, a_Loader_findNames, a_Loader_keep]
set_option maxRecDepth 100000 in
theorem s_Loader_boot : (am_chkR { frames := 3, cells := 0, slots := 0, locals := 118 } k_Loader_boot && am_chkN c_Loader_boot { frames := 3, cells := 0, slots := 0, locals := 118 } && c_Loader_boot.all (am_chk "LinkHouse$Loader" prog_3_method_4_code 9 (Option.some Jvm.ClassFile.FieldType.int) k_Loader_boot) && c_Loader_boot.all (am_chkL m_Loader_boot) && decide (m_Loader_boot[0]? = some (0, am_argp 0 [2, 2, 0], [])) && decide (am_argn [2, 2, 0] ≤ 9)) = true := by decide +kernel
set_option maxHeartbeats 150000 in
set_option maxRecDepth 100000 in
theorem h_Loader_boot : ∀ X Q j v σ, B_Loader_boot X Q j v σ → am_at GR k_Loader_boot c_Loader_boot m_Loader_boot X Q 133 j v σ := fun X Q => am_sel_all (P := fun j v σ => am_at GR k_Loader_boot c_Loader_boot m_Loader_boot X Q 133 j v σ) (⟨(am_v3_of (fun t x1 x2 σ h => am_tk (fun e => by subst e; exact fun h => h) h)), ⟨(am_v4_of (fun t x3 x5 x7 σ h => am_tk (fun e => by subst e; exact fun h => h) h)), ⟨(am_v4_of (fun t x3 x5 x7 σ h => am_tk (fun e => by subst e; exact fun h => h) h)), trivial⟩⟩⟩)
set_option maxRecDepth 100000 in
theorem S_Loader_boot (l : Launch) (w : AW) : am_S l w GR a_Loader_boot := am_sound (rt := 0) (cal := k_Loader_boot) 131 y_Loader_boot prog_3_method_4_code 9 (Option.some Jvm.ClassFile.FieldType.int) [2, 2, 0] false { frames := 3, cells := 0, slots := 0, locals := 118 } B_Loader_boot "LinkHouse$Loader" c_Loader_boot m_Loader_boot 133 ms_Loader_boot (by decide +kernel) rfl rfl (am_cal (S_Loader_number l w) (am_cal (S_Loader_lies l w) (am_cal (S_Loader_load l w) (am_cal (S_Loader_isEntry l w) (am_cal (S_Loader_findNames l w) (am_cal (S_Loader_keep l w) (fun _ h => absurd h List.not_mem_nil))))))) s_Loader_boot h_Loader_boot
set_option maxRecDepth 100000 in
theorem of_Loader_boot {Q : Int → AMem → Prop} {x1 x2 : Int} {σ : AMem} (h : ∀ X : Nat → List Int → AMem → Prop, (∀ (x1 x2 : Int) (σ : AMem), B_Loader_boot_0 X Q x1 x2 σ → X 0 [2, x1, x2] σ) → (∀ (x3 x5 x7 : Int) (σ : AMem), B_Loader_boot_1 X Q x3 x5 x7 σ → X 1 [2, x3, x5, x7] σ) → (∀ (x3 x5 x7 : Int) (σ : AMem), B_Loader_boot_2 X Q x3 x5 x7 σ → X 2 [2, x3, x5, x7] σ) → X 0 [2, x1, x2] σ) : T_Loader_boot [2, x1, x2] σ Q := fun X hX => h X (fun x1 x2 σ h => hX 0 [2, x1, x2] σ h) (fun x3 x5 x7 σ h => hX 1 [2, x3, x5, x7] σ h) (fun x3 x5 x7 σ h => hX 2 [2, x3, x5, x7] σ h)
def c_LinkHouse_boot : List aE := [(0, 1, .aload_n 0, 1, 0, 0, []), (1, 0, .aload_n 0, 1, 0, 0, []), (2, 0, .getfield 12, 3, 0, 0, [2, 0, 1213]), (5, 0, .iload_n 1, 1, 0, 0, []), (6, 0, .ifCond .eq 10, 3, 0, 0, []), (9, 0, .aload_n 0, 1, 0, 0, []), (10, 0, .getfield 29, 3, 0, 4, [2, 0, 1217]), (13, 0, .goto 7, 3, 0, 0, []), (16, 0, .aload_n 0, 1, 0, 0, []), (17, 0, .getfield 37, 3, 0, 6, [2, 0, 1219]), (20, 2, .iload_n 1, 1, 0, 0, []), (21, 0, .ifCond .eq 10, 3, 0, 0, []), (24, 0, .aload_n 0, 1, 0, 0, []), (25, 0, .getfield 189, 3, 0, 19, [0, 0, 1232]), (28, 0, .goto 7, 3, 0, 0, []), (31, 0, .aload_n 0, 1, 0, 0, []), (32, 0, .getfield 204, 3, 0, 20, [0, 0, 1233]), (35, 3, .invokevirtual 920, 3, 131, 1, [5014]), (38, 0, .putfield 923, 3, 0, 1, [0, 0, 1214]), (41, 0, .iload_n 1, 1, 0, 0, []), (42, 0, .ifCond .eq 8, 3, 0, 0, []), (45, 0, .aload_n 0, 1, 0, 0, []), (46, 0, .iconst 0, 1, 0, 0, []), (47, 0, .putfield 189, 3, 0, 19, [0, 0, 1232]), (50, 0, .aload_n 0, 1, 0, 0, []), (51, 0, .getfield 923, 3, 0, 1, [0, 0, 1214]), (54, 0, .ireturn, 1, 0, 0, [])]
def m_LinkHouse_boot : List aT := [(0, [(0, 2), (1, 0)], []), (20, [(0, 2), (1, 0)], [2, 2, 2]), (35, [(0, 2), (1, 0)], [0, 2, 2, 2])]
def B_LinkHouse_boot_0 (X : Nat → List Int → AMem → Prop) (Q : Int → AMem → Prop) (x1 : Int) (σ : AMem) : Prop :=
  (if x1 = 0 then
  X 1 [1, x1, (σ 1 6), 2, 1] σ
  else
  X 1 [1, x1, 8276, 2, 1] σ)
def B_LinkHouse_boot_1 (X : Nat → List Int → AMem → Prop) (Q : Int → AMem → Prop) (x1 s0 s1 s2 : Int) (σ : AMem) : Prop :=
  (if x1 = 0 then
  X 2 [1, x1, (σ 1 20), s0, s1, s2] σ
  else
  X 2 [1, x1, (σ 1 19), s0, s1, s2] σ)
def B_LinkHouse_boot_2 (X : Nat → List Int → AMem → Prop) (Q : Int → AMem → Prop) (x1 s0 s1 s2 s3 : Int) (σ : AMem) : Prop :=
  (if ly_k s2 = 21 then T_Loader_boot [s2, s1, s0] σ (fun r1 σ2 => (if ly_k s3 = 20 then (if ly_fin s3 1 = 0 then am_let (am_upd σ2 s3 1 r1) (fun σ3 => (if x1 = 0 then
  Q (σ3 1 1) σ3
  else
  am_let (am_upd σ3 1 19 0) (fun σ4 => Q (σ4 1 1) σ4))) else False) else False)) else False)
def B_LinkHouse_boot : (Nat → List Int → AMem → Prop) → (Int → AMem → Prop) → Nat → List Int → AMem → Prop := fun X Q j v σ => am_sel [(am_v2 (fun t x1 σ => if t = 1 then B_LinkHouse_boot_0 X Q x1 σ else False)), (am_v5 (fun t x1 s0 s1 s2 σ => if t = 1 then B_LinkHouse_boot_1 X Q x1 s0 s1 s2 σ else False)), (am_v6 (fun t x1 s0 s1 s2 s3 σ => if t = 1 then B_LinkHouse_boot_2 X Q x1 s0 s1 s2 s3 σ else False))] j v σ
def T_LinkHouse_boot : List Int → AMem → (Int → AMem → Prop) → Prop := am_T B_LinkHouse_boot
abbrev y_LinkHouse_boot : MethodName := ⟨"LinkHouse", "boot", "(Z)I"⟩
def a_LinkHouse_boot : AC := (132, (y_LinkHouse_boot, prog_1_method_102_code, 2, (Option.some Jvm.ClassFile.FieldType.int)), [2, 0], 0, false, { frames := 4, cells := 0, slots := 0, locals := 154 }, T_LinkHouse_boot)
set_option maxRecDepth 100000 in
theorem ms_LinkHouse_boot : am_MSp a_LinkHouse_boot := am_ms_v 5013 1 5011 5012 0 rfl (by decide +kernel)
abbrev k_LinkHouse_boot : List AC := [a_Loader_boot]
set_option maxRecDepth 100000 in
theorem s_LinkHouse_boot : (am_chkR { frames := 4, cells := 0, slots := 0, locals := 154 } k_LinkHouse_boot && am_chkN c_LinkHouse_boot { frames := 4, cells := 0, slots := 0, locals := 154 } && c_LinkHouse_boot.all (am_chk "LinkHouse" prog_1_method_102_code 2 (Option.some Jvm.ClassFile.FieldType.int) k_LinkHouse_boot) && c_LinkHouse_boot.all (am_chkL m_LinkHouse_boot) && decide (m_LinkHouse_boot[0]? = some (0, am_argp 0 [2, 0], [])) && decide (am_argn [2, 0] ≤ 2)) = true := by decide +kernel
set_option maxHeartbeats 150000 in
set_option maxRecDepth 100000 in
theorem h_LinkHouse_boot : ∀ X Q j v σ, B_LinkHouse_boot X Q j v σ → am_at GR k_LinkHouse_boot c_LinkHouse_boot m_LinkHouse_boot X Q 32 j v σ := fun X Q => am_sel_all (P := fun j v σ => am_at GR k_LinkHouse_boot c_LinkHouse_boot m_LinkHouse_boot X Q 32 j v σ) (⟨(am_v2_of (fun t x1 σ h => am_tk (fun e => by subst e; exact fun h => h) h)), ⟨(am_v5_of (fun t x1 s0 s1 s2 σ h => am_tk (fun e => by subst e; exact fun h => h) h)), ⟨(am_v6_of (fun t x1 s0 s1 s2 s3 σ h => am_tk (fun e => by subst e; exact fun h => h) h)), trivial⟩⟩⟩)
set_option maxRecDepth 100000 in
theorem S_LinkHouse_boot (l : Launch) (w : AW) : am_S l w GR a_LinkHouse_boot := am_sound (rt := 0) (cal := k_LinkHouse_boot) 132 y_LinkHouse_boot prog_1_method_102_code 2 (Option.some Jvm.ClassFile.FieldType.int) [2, 0] false { frames := 4, cells := 0, slots := 0, locals := 154 } B_LinkHouse_boot "LinkHouse" c_LinkHouse_boot m_LinkHouse_boot 32 ms_LinkHouse_boot (by decide +kernel) rfl rfl (am_cal (S_Loader_boot l w) (fun _ h => absurd h List.not_mem_nil)) s_LinkHouse_boot h_LinkHouse_boot
set_option maxRecDepth 100000 in
theorem of_LinkHouse_boot {Q : Int → AMem → Prop} {x1 : Int} {σ : AMem} (h : ∀ X : Nat → List Int → AMem → Prop, (∀ (x1 : Int) (σ : AMem), B_LinkHouse_boot_0 X Q x1 σ → X 0 [1, x1] σ) → (∀ (x1 s0 s1 s2 : Int) (σ : AMem), B_LinkHouse_boot_1 X Q x1 s0 s1 s2 σ → X 1 [1, x1, s0, s1, s2] σ) → (∀ (x1 s0 s1 s2 s3 : Int) (σ : AMem), B_LinkHouse_boot_2 X Q x1 s0 s1 s2 s3 σ → X 2 [1, x1, s0, s1, s2, s3] σ) → X 0 [1, x1] σ) : T_LinkHouse_boot [1, x1] σ Q := fun X hX => h X (fun x1 σ h => hX 0 [1, x1] σ h) (fun x1 s0 s1 s2 σ h => hX 1 [1, x1, s0, s1, s2] σ h) (fun x1 s0 s1 s2 s3 σ h => hX 2 [1, x1, s0, s1, s2, s3] σ h)
def c_Loader_peek : List aE := [(0, 1, .aload_n 0, 1, 0, 0, []), (1, 0, .lload_n 1, 1, 0, 0, []), (2, 0, .invokevirtual 152, 3, 120, 1, [5078]), (5, 0, .istore_n 3, 1, 0, 0, []), (6, 0, .iload_n 3, 1, 0, 0, []), (7, 0, .ifCond .ge 7, 3, 0, 0, []), (10, 0, .iconst (-1), 1, 0, 0, []), (11, 0, .goto 26, 3, 0, 0, []), (14, 0, .aload_n 0, 1, 0, 0, []), (15, 0, .getfield 12, 3, 1, 0, [2, 0, 34]), (18, 0, .iload_n 3, 1, 0, 0, []), (19, 0, .ldc 126, 2, 65536, 0, [5069]), (21, 0, .imul, 1, 0, 0, []), (22, 0, .lload_n 1, 1, 0, 0, []), (23, 0, .aload_n 0, 1, 0, 0, []), (24, 0, .getfield 16, 3, 1, 1, [2, 0, 35]), (27, 0, .iload_n 3, 1, 0, 0, []), (28, 0, .laload, 1, 0, 0, []), (29, 0, .lsub, 1, 0, 0, []), (30, 0, .l2i, 1, 0, 0, []), (31, 0, .iadd, 1, 0, 0, []), (32, 0, .baload, 1, 2, 0, []), (33, 0, .sipush 255, 3, 0, 0, []), (36, 0, .iand, 1, 0, 0, []), (37, 0, .ireturn, 1, 0, 0, [])]
def m_Loader_peek : List aT := [(0, [(0, 2), (1, 1)], [])]
def B_Loader_peek_0 (X : Nat → List Int → AMem → Prop) (Q : Int → AMem → Prop) (x1 : Int) (σ : AMem) : Prop :=
  T_Loader_find [2, x1] σ (fun r1 σ2 => (if r1 < 0 then
  Q (-1) σ2
  else
  am_r32 (r1 * 65536) ∧ 0 ≤ r1 ∧ r1 < 8 ∧ am_r32 ((r1 * 65536) + (w32 (w64 (x1 - (σ2 4 r1))))) ∧ 0 ≤ ((r1 * 65536) + (w32 (w64 (x1 - (σ2 4 r1))))) ∧ ((r1 * 65536) + (w32 (w64 (x1 - (σ2 4 r1))))) < 524288 ∧ Q (i_and (σ2 3 ((r1 * 65536) + (w32 (w64 (x1 - (σ2 4 r1)))))) 255) σ2))
def B_Loader_peek : (Nat → List Int → AMem → Prop) → (Int → AMem → Prop) → Nat → List Int → AMem → Prop := fun X Q j v σ => am_sel [(am_v2 (fun t x1 σ => if t = 2 then B_Loader_peek_0 X Q x1 σ else False))] j v σ
def T_Loader_peek : List Int → AMem → (Int → AMem → Prop) → Prop := am_T B_Loader_peek
abbrev y_Loader_peek : MethodName := ⟨"LinkHouse$Loader", "peek", "(J)I"⟩
def a_Loader_peek : AC := (133, (y_Loader_peek, prog_3_method_13_code, 4, (Option.some Jvm.ClassFile.FieldType.int)), [2, 1], 0, false, { frames := 1, cells := 0, slots := 0, locals := 31 }, T_Loader_peek)
set_option maxRecDepth 100000 in
theorem ms_Loader_peek : am_MSp a_Loader_peek := am_ms_v 5077 2 5075 5076 1 rfl (by decide +kernel)
abbrev k_Loader_peek : List AC := [a_Loader_find]
set_option maxRecDepth 100000 in
theorem s_Loader_peek : (am_chkR { frames := 1, cells := 0, slots := 0, locals := 31 } k_Loader_peek && am_chkN c_Loader_peek { frames := 1, cells := 0, slots := 0, locals := 31 } && c_Loader_peek.all (am_chk "LinkHouse$Loader" prog_3_method_13_code 4 (Option.some Jvm.ClassFile.FieldType.int) k_Loader_peek) && c_Loader_peek.all (am_chkL m_Loader_peek) && decide (m_Loader_peek[0]? = some (0, am_argp 0 [2, 1], [])) && decide (am_argn [2, 1] ≤ 4)) = true := by decide +kernel
set_option maxHeartbeats 150000 in
set_option maxRecDepth 100000 in
theorem h_Loader_peek : ∀ X Q j v σ, B_Loader_peek X Q j v σ → am_at GR k_Loader_peek c_Loader_peek m_Loader_peek X Q 30 j v σ := fun X Q => am_sel_all (P := fun j v σ => am_at GR k_Loader_peek c_Loader_peek m_Loader_peek X Q 30 j v σ) (⟨(am_v2_of (fun t x1 σ h => am_tk (fun e => by subst e; exact fun h => h) h)), trivial⟩)
set_option maxRecDepth 100000 in
theorem S_Loader_peek (l : Launch) (w : AW) : am_S l w GR a_Loader_peek := am_sound (rt := 0) (cal := k_Loader_peek) 133 y_Loader_peek prog_3_method_13_code 4 (Option.some Jvm.ClassFile.FieldType.int) [2, 1] false { frames := 1, cells := 0, slots := 0, locals := 31 } B_Loader_peek "LinkHouse$Loader" c_Loader_peek m_Loader_peek 30 ms_Loader_peek (by decide +kernel) rfl rfl (am_cal (S_Loader_find l w) (fun _ h => absurd h List.not_mem_nil)) s_Loader_peek h_Loader_peek
set_option maxRecDepth 100000 in
theorem of_Loader_peek {Q : Int → AMem → Prop} {x1 : Int} {σ : AMem} (h : ∀ X : Nat → List Int → AMem → Prop, (∀ (x1 : Int) (σ : AMem), B_Loader_peek_0 X Q x1 σ → X 0 [2, x1] σ) → X 0 [2, x1] σ) : T_Loader_peek [2, x1] σ Q := fun X hX => h X (fun x1 σ h => hX 0 [2, x1] σ h)
set_option maxRecDepth 100000 in
theorem iff_Loader_peek {Q : Int → AMem → Prop} {X : Nat → List Int → AMem → Prop} {x1 : Int} {σ : AMem} : T_Loader_peek [2, x1] σ Q ↔ B_Loader_peek_0 X Q x1 σ := ⟨fun h => h (fun j v σ => B_Loader_peek X Q j v σ) (fun _ _ _ q => q), fun h _ hX => hX 0 _ _ h⟩
def c_LinkHouse_peek : List aE := [(0, 1, .aload_n 0, 1, 0, 0, []), (1, 0, .getfield 12, 3, 0, 0, [2, 0, 1213]), (4, 0, .lload_n 1, 1, 0, 0, []), (5, 0, .invokevirtual 926, 3, 133, 1, [5074]), (8, 0, .ireturn, 1, 0, 0, [])]
def m_LinkHouse_peek : List aT := [(0, [(0, 2), (1, 1)], [])]
def B_LinkHouse_peek_0 (X : Nat → List Int → AMem → Prop) (Q : Int → AMem → Prop) (x1 : Int) (σ : AMem) : Prop :=
  T_Loader_peek [2, x1] σ (fun r1 σ2 => Q r1 σ2)
def B_LinkHouse_peek : (Nat → List Int → AMem → Prop) → (Int → AMem → Prop) → Nat → List Int → AMem → Prop := fun X Q j v σ => am_sel [(am_v2 (fun t x1 σ => if t = 1 then B_LinkHouse_peek_0 X Q x1 σ else False))] j v σ
def T_LinkHouse_peek : List Int → AMem → (Int → AMem → Prop) → Prop := am_T B_LinkHouse_peek
abbrev y_LinkHouse_peek : MethodName := ⟨"LinkHouse", "peek", "(J)I"⟩
def a_LinkHouse_peek : AC := (134, (y_LinkHouse_peek, prog_1_method_103_code, 3, (Option.some Jvm.ClassFile.FieldType.int)), [2, 1], 0, false, { frames := 2, cells := 0, slots := 0, locals := 62 }, T_LinkHouse_peek)
set_option maxRecDepth 100000 in
theorem ms_LinkHouse_peek : am_MSp a_LinkHouse_peek := am_ms_v 5073 1 5071 5072 0 rfl (by decide +kernel)
abbrev k_LinkHouse_peek : List AC := [a_Loader_peek]
set_option maxRecDepth 100000 in
theorem s_LinkHouse_peek : (am_chkR { frames := 2, cells := 0, slots := 0, locals := 62 } k_LinkHouse_peek && am_chkN c_LinkHouse_peek { frames := 2, cells := 0, slots := 0, locals := 62 } && c_LinkHouse_peek.all (am_chk "LinkHouse" prog_1_method_103_code 3 (Option.some Jvm.ClassFile.FieldType.int) k_LinkHouse_peek) && c_LinkHouse_peek.all (am_chkL m_LinkHouse_peek) && decide (m_LinkHouse_peek[0]? = some (0, am_argp 0 [2, 1], [])) && decide (am_argn [2, 1] ≤ 3)) = true := by decide +kernel
set_option maxHeartbeats 150000 in
set_option maxRecDepth 100000 in
theorem h_LinkHouse_peek : ∀ X Q j v σ, B_LinkHouse_peek X Q j v σ → am_at GR k_LinkHouse_peek c_LinkHouse_peek m_LinkHouse_peek X Q 20 j v σ := fun X Q => am_sel_all (P := fun j v σ => am_at GR k_LinkHouse_peek c_LinkHouse_peek m_LinkHouse_peek X Q 20 j v σ) (⟨(am_v2_of (fun t x1 σ h => am_tk (fun e => by subst e; exact fun h => h) h)), trivial⟩)
set_option maxRecDepth 100000 in
theorem S_LinkHouse_peek (l : Launch) (w : AW) : am_S l w GR a_LinkHouse_peek := am_sound (rt := 0) (cal := k_LinkHouse_peek) 134 y_LinkHouse_peek prog_1_method_103_code 3 (Option.some Jvm.ClassFile.FieldType.int) [2, 1] false { frames := 2, cells := 0, slots := 0, locals := 62 } B_LinkHouse_peek "LinkHouse" c_LinkHouse_peek m_LinkHouse_peek 20 ms_LinkHouse_peek (by decide +kernel) rfl rfl (am_cal (S_Loader_peek l w) (fun _ h => absurd h List.not_mem_nil)) s_LinkHouse_peek h_LinkHouse_peek
set_option maxRecDepth 100000 in
theorem of_LinkHouse_peek {Q : Int → AMem → Prop} {x1 : Int} {σ : AMem} (h : ∀ X : Nat → List Int → AMem → Prop, (∀ (x1 : Int) (σ : AMem), B_LinkHouse_peek_0 X Q x1 σ → X 0 [1, x1] σ) → X 0 [1, x1] σ) : T_LinkHouse_peek [1, x1] σ Q := fun X hX => h X (fun x1 σ h => hX 0 [1, x1] σ h)
set_option maxRecDepth 100000 in
theorem iff_LinkHouse_peek {Q : Int → AMem → Prop} {X : Nat → List Int → AMem → Prop} {x1 : Int} {σ : AMem} : T_LinkHouse_peek [1, x1] σ Q ↔ B_LinkHouse_peek_0 X Q x1 σ := ⟨fun h => h (fun j v σ => B_LinkHouse_peek X Q j v σ) (fun _ _ _ q => q), fun h _ hX => hX 0 _ _ h⟩
def c_LinkHouse_flags : List aE := [(0, 1, .aload_n 0, 1, 0, 0, []), (1, 0, .getfield 12, 3, 0, 0, [2, 0, 1213]), (4, 0, .lload_n 1, 1, 0, 0, []), (5, 0, .invokevirtual 888, 3, 120, 1, [4237]), (8, 0, .istore_n 3, 1, 0, 0, []), (9, 0, .iload_n 3, 1, 0, 0, []), (10, 0, .ifCond .ge 9, 3, 0, 0, []), (13, 0, .ldc2_w 551, 3, 1, 1, [4028]), (16, 0, .goto 12, 3, 0, 0, []), (19, 0, .aload_n 0, 1, 0, 0, []), (20, 0, .getfield 12, 3, 0, 0, [2, 0, 1213]), (23, 0, .getfield 929, 3, 1, 3, [2, 0, 38]), (26, 0, .iload_n 3, 1, 0, 0, []), (27, 0, .laload, 1, 0, 0, []), (28, 0, .lreturn, 1, 0, 0, [])]
def m_LinkHouse_flags : List aT := [(0, [(0, 2), (1, 1)], [])]
def B_LinkHouse_flags_0 (X : Nat → List Int → AMem → Prop) (Q : Int → AMem → Prop) (x1 : Int) (σ : AMem) : Prop :=
  T_Loader_find [2, x1] σ (fun r1 σ2 => (if r1 < 0 then
  Q (-1) σ2
  else
  0 ≤ r1 ∧ r1 < 8 ∧ Q (σ2 6 r1) σ2))
def B_LinkHouse_flags : (Nat → List Int → AMem → Prop) → (Int → AMem → Prop) → Nat → List Int → AMem → Prop := fun X Q j v σ => am_sel [(am_v2 (fun t x1 σ => if t = 1 then B_LinkHouse_flags_0 X Q x1 σ else False))] j v σ
def T_LinkHouse_flags : List Int → AMem → (Int → AMem → Prop) → Prop := am_T B_LinkHouse_flags
abbrev y_LinkHouse_flags : MethodName := ⟨"LinkHouse", "flags", "(J)J"⟩
def a_LinkHouse_flags : AC := (135, (y_LinkHouse_flags, prog_1_method_104_code, 4, (Option.some Jvm.ClassFile.FieldType.long)), [2, 1], 1, false, { frames := 1, cells := 0, slots := 0, locals := 31 }, T_LinkHouse_flags)
set_option maxRecDepth 100000 in
theorem ms_LinkHouse_flags : am_MSp a_LinkHouse_flags := am_ms_v 5082 1 5080 5081 0 rfl (by decide +kernel)
abbrev k_LinkHouse_flags : List AC := [a_Loader_find]
set_option maxRecDepth 100000 in
theorem s_LinkHouse_flags : (am_chkR { frames := 1, cells := 0, slots := 0, locals := 31 } k_LinkHouse_flags && am_chkN c_LinkHouse_flags { frames := 1, cells := 0, slots := 0, locals := 31 } && c_LinkHouse_flags.all (am_chk "LinkHouse" prog_1_method_104_code 4 (Option.some Jvm.ClassFile.FieldType.long) k_LinkHouse_flags) && c_LinkHouse_flags.all (am_chkL m_LinkHouse_flags) && decide (m_LinkHouse_flags[0]? = some (0, am_argp 0 [2, 1], [])) && decide (am_argn [2, 1] ≤ 4)) = true := by decide +kernel
set_option maxHeartbeats 150000 in
set_option maxRecDepth 100000 in
theorem h_LinkHouse_flags : ∀ X Q j v σ, B_LinkHouse_flags X Q j v σ → am_at GR k_LinkHouse_flags c_LinkHouse_flags m_LinkHouse_flags X Q 20 j v σ := fun X Q => am_sel_all (P := fun j v σ => am_at GR k_LinkHouse_flags c_LinkHouse_flags m_LinkHouse_flags X Q 20 j v σ) (⟨(am_v2_of (fun t x1 σ h => am_tk (fun e => by subst e; exact fun h => h) h)), trivial⟩)
set_option maxRecDepth 100000 in
theorem S_LinkHouse_flags (l : Launch) (w : AW) : am_S l w GR a_LinkHouse_flags := am_sound (rt := 1) (cal := k_LinkHouse_flags) 135 y_LinkHouse_flags prog_1_method_104_code 4 (Option.some Jvm.ClassFile.FieldType.long) [2, 1] false { frames := 1, cells := 0, slots := 0, locals := 31 } B_LinkHouse_flags "LinkHouse" c_LinkHouse_flags m_LinkHouse_flags 20 ms_LinkHouse_flags (by decide +kernel) rfl rfl (am_cal (S_Loader_find l w) (fun _ h => absurd h List.not_mem_nil)) s_LinkHouse_flags h_LinkHouse_flags
set_option maxRecDepth 100000 in
theorem of_LinkHouse_flags {Q : Int → AMem → Prop} {x1 : Int} {σ : AMem} (h : ∀ X : Nat → List Int → AMem → Prop, (∀ (x1 : Int) (σ : AMem), B_LinkHouse_flags_0 X Q x1 σ → X 0 [1, x1] σ) → X 0 [1, x1] σ) : T_LinkHouse_flags [1, x1] σ Q := fun X hX => h X (fun x1 σ h => hX 0 [1, x1] σ h)
set_option maxRecDepth 100000 in
theorem iff_LinkHouse_flags {Q : Int → AMem → Prop} {X : Nat → List Int → AMem → Prop} {x1 : Int} {σ : AMem} : T_LinkHouse_flags [1, x1] σ Q ↔ B_LinkHouse_flags_0 X Q x1 σ := ⟨fun h => h (fun j v σ => B_LinkHouse_flags X Q j v σ) (fun _ _ _ q => q), fun h _ hX => hX 0 _ _ h⟩
def c_LinkHouse_in : List aE := [(0, 1, .lload_n 0, 1, 0, 0, []), (1, 0, .lload_n 2, 1, 0, 0, []), (2, 0, .lcmp, 1, 0, 0, []), (3, 0, .ifCond .lt 14, 3, 0, 0, []), (6, 0, .lload_n 0, 1, 0, 0, []), (7, 0, .lload 4, 2, 0, 0, []), (9, 0, .lcmp, 1, 0, 0, []), (10, 0, .ifCond .gt 7, 3, 0, 0, []), (13, 0, .iconst 1, 1, 0, 0, []), (14, 0, .goto 4, 3, 0, 0, []), (17, 0, .iconst 0, 1, 0, 0, []), (18, 0, .ireturn, 1, 1, 0, [])]
def m_LinkHouse_in : List aT := [(0, [(0, 1), (2, 1), (4, 1)], [])]
def B_LinkHouse_in_0 (X : Nat → List Int → AMem → Prop) (Q : Int → AMem → Prop) (x0 x2 x4 : Int) (σ : AMem) : Prop :=
  (if x0 < x2 then
  Q 0 σ
  else
  (if x4 < x0 then
    Q 0 σ
    else
    Q 1 σ))
def B_LinkHouse_in : (Nat → List Int → AMem → Prop) → (Int → AMem → Prop) → Nat → List Int → AMem → Prop := fun X Q j v σ => am_sel [(am_v3 (fun x0 x2 x4 σ => B_LinkHouse_in_0 X Q x0 x2 x4 σ))] j v σ
def T_LinkHouse_in : List Int → AMem → (Int → AMem → Prop) → Prop := am_T B_LinkHouse_in
abbrev y_LinkHouse_in : MethodName := ⟨"LinkHouse", "in", "(JJJ)Z"⟩
def a_LinkHouse_in : AC := (136, (y_LinkHouse_in, prog_1_method_2_code, 6, (Option.some Jvm.ClassFile.FieldType.boolean)), [1, 1, 1], 0, true, { frames := 0, cells := 0, slots := 0, locals := 0 }, T_LinkHouse_in)
set_option maxRecDepth 100000 in
theorem ms_LinkHouse_in : am_MSp a_LinkHouse_in := am_ms_s 5094 1 5093 rfl (by decide +kernel)
abbrev k_LinkHouse_in : List AC := []
set_option maxRecDepth 100000 in
theorem s_LinkHouse_in : (am_chkR { frames := 0, cells := 0, slots := 0, locals := 0 } k_LinkHouse_in && am_chkN c_LinkHouse_in { frames := 0, cells := 0, slots := 0, locals := 0 } && c_LinkHouse_in.all (am_chk "LinkHouse" prog_1_method_2_code 6 (Option.some Jvm.ClassFile.FieldType.boolean) k_LinkHouse_in) && c_LinkHouse_in.all (am_chkL m_LinkHouse_in) && decide (m_LinkHouse_in[0]? = some (0, am_argp 0 [1, 1, 1], [])) && decide (am_argn [1, 1, 1] ≤ 6)) = true := by decide +kernel
set_option maxHeartbeats 150000 in
set_option maxRecDepth 100000 in
theorem h_LinkHouse_in : ∀ X Q j v σ, B_LinkHouse_in X Q j v σ → am_at GR k_LinkHouse_in c_LinkHouse_in m_LinkHouse_in X Q 20 j v σ := fun X Q => am_sel_all (P := fun j v σ => am_at GR k_LinkHouse_in c_LinkHouse_in m_LinkHouse_in X Q 20 j v σ) (⟨(am_v3_of (fun x0 x2 x4 σ h => h)), trivial⟩)
set_option maxRecDepth 100000 in
theorem S_LinkHouse_in (l : Launch) (w : AW) : am_S l w GR a_LinkHouse_in := am_sound (rt := 0) (cal := k_LinkHouse_in) 136 y_LinkHouse_in prog_1_method_2_code 6 (Option.some Jvm.ClassFile.FieldType.boolean) [1, 1, 1] true { frames := 0, cells := 0, slots := 0, locals := 0 } B_LinkHouse_in "LinkHouse" c_LinkHouse_in m_LinkHouse_in 20 ms_LinkHouse_in (by decide +kernel) rfl rfl (fun _ h => absurd h List.not_mem_nil) s_LinkHouse_in h_LinkHouse_in
set_option maxRecDepth 100000 in
theorem of_LinkHouse_in {Q : Int → AMem → Prop} {x0 x2 x4 : Int} {σ : AMem} (h : ∀ X : Nat → List Int → AMem → Prop, (∀ (x0 x2 x4 : Int) (σ : AMem), B_LinkHouse_in_0 X Q x0 x2 x4 σ → X 0 [x0, x2, x4] σ) → X 0 [x0, x2, x4] σ) : T_LinkHouse_in [x0, x2, x4] σ Q := fun X hX => h X (fun x0 x2 x4 σ h => hX 0 [x0, x2, x4] σ h)
set_option maxRecDepth 100000 in
theorem iff_LinkHouse_in {Q : Int → AMem → Prop} {X : Nat → List Int → AMem → Prop} {x0 x2 x4 : Int} {σ : AMem} : T_LinkHouse_in [x0, x2, x4] σ Q ↔ B_LinkHouse_in_0 X Q x0 x2 x4 σ := ⟨fun h => h (fun j v σ => B_LinkHouse_in X Q j v σ) (fun _ _ _ q => q), fun h _ hX => hX 0 _ _ h⟩
def c_LinkHouse_need : List aE := [(0, 1, .iload_n 0, 1, 0, 0, []), (1, 0, .ifCond .ne 11, 3, 0, 0, []), (12, 0, .return_, 1, 0, 0, [])]
def m_LinkHouse_need : List aT := [(0, [(0, 0)], [])]
def B_LinkHouse_need_0 (X : Nat → List Int → AMem → Prop) (Q : Int → AMem → Prop) (x0 : Int) (σ : AMem) : Prop :=
  (if x0 = 0 then
  False
  else
  Q 0 σ)
def B_LinkHouse_need : (Nat → List Int → AMem → Prop) → (Int → AMem → Prop) → Nat → List Int → AMem → Prop := fun X Q j v σ => am_sel [(am_v1 (fun x0 σ => B_LinkHouse_need_0 X Q x0 σ))] j v σ
def T_LinkHouse_need : List Int → AMem → (Int → AMem → Prop) → Prop := am_T B_LinkHouse_need
abbrev y_LinkHouse_need : MethodName := ⟨"LinkHouse", "need", "(Z)V"⟩
def a_LinkHouse_need : AC := (137, (y_LinkHouse_need, prog_1_method_3_code, 1, (Option.none : Option Jvm.ClassFile.FieldType)), [0], 3, true, { frames := 8, cells := 0, slots := 0, locals := 220 }, T_LinkHouse_need)
set_option maxRecDepth 100000 in
theorem ms_LinkHouse_need : am_MSp a_LinkHouse_need := am_ms_s 5097 1 5096 rfl (by decide +kernel)
abbrev k_LinkHouse_need : List AC := []
set_option maxRecDepth 100000 in
theorem s_LinkHouse_need : (am_chkR { frames := 8, cells := 0, slots := 0, locals := 220 } k_LinkHouse_need && am_chkN c_LinkHouse_need { frames := 8, cells := 0, slots := 0, locals := 220 } && c_LinkHouse_need.all (am_chk "LinkHouse" prog_1_method_3_code 1 (Option.none : Option Jvm.ClassFile.FieldType) k_LinkHouse_need) && c_LinkHouse_need.all (am_chkL m_LinkHouse_need) && decide (m_LinkHouse_need[0]? = some (0, am_argp 0 [0], [])) && decide (am_argn [0] ≤ 1)) = true := by decide +kernel
set_option maxHeartbeats 150000 in
set_option maxRecDepth 100000 in
theorem h_LinkHouse_need : ∀ X Q j v σ, B_LinkHouse_need X Q j v σ → am_at GR k_LinkHouse_need c_LinkHouse_need m_LinkHouse_need X Q 20 j v σ := fun X Q => am_sel_all (P := fun j v σ => am_at GR k_LinkHouse_need c_LinkHouse_need m_LinkHouse_need X Q 20 j v σ) (⟨(am_v1_of (fun x0 σ h => h)), trivial⟩)
set_option maxRecDepth 100000 in
theorem S_LinkHouse_need (l : Launch) (w : AW) : am_S l w GR a_LinkHouse_need := am_sound (rt := 3) (cal := k_LinkHouse_need) 137 y_LinkHouse_need prog_1_method_3_code 1 (Option.none : Option Jvm.ClassFile.FieldType) [0] true { frames := 8, cells := 0, slots := 0, locals := 220 } B_LinkHouse_need "LinkHouse" c_LinkHouse_need m_LinkHouse_need 20 ms_LinkHouse_need (by decide +kernel) rfl rfl (fun _ h => absurd h List.not_mem_nil) s_LinkHouse_need h_LinkHouse_need
set_option maxRecDepth 100000 in
theorem of_LinkHouse_need {Q : Int → AMem → Prop} {x0 : Int} {σ : AMem} (h : ∀ X : Nat → List Int → AMem → Prop, (∀ (x0 : Int) (σ : AMem), B_LinkHouse_need_0 X Q x0 σ → X 0 [x0] σ) → X 0 [x0] σ) : T_LinkHouse_need [x0] σ Q := fun X hX => h X (fun x0 σ h => hX 0 [x0] σ h)
set_option maxRecDepth 100000 in
theorem iff_LinkHouse_need {Q : Int → AMem → Prop} {X : Nat → List Int → AMem → Prop} {x0 : Int} {σ : AMem} : T_LinkHouse_need [x0] σ Q ↔ B_LinkHouse_need_0 X Q x0 σ := ⟨fun h => h (fun j v σ => B_LinkHouse_need X Q j v σ) (fun _ _ _ q => q), fun h _ hX => hX 0 _ _ h⟩
def c_LinkHouse_ready : List aE := [(0, 1, .iload_n 0, 1, 0, 0, []), (1, 0, .ifCond .ne 11, 3, 0, 0, []), (12, 0, .return_, 1, 0, 0, [])]
def m_LinkHouse_ready : List aT := [(0, [(0, 0)], [])]
def B_LinkHouse_ready_0 (X : Nat → List Int → AMem → Prop) (Q : Int → AMem → Prop) (x0 : Int) (σ : AMem) : Prop :=
  (if x0 = 0 then
  False
  else
  Q 0 σ)
def B_LinkHouse_ready : (Nat → List Int → AMem → Prop) → (Int → AMem → Prop) → Nat → List Int → AMem → Prop := fun X Q j v σ => am_sel [(am_v1 (fun x0 σ => B_LinkHouse_ready_0 X Q x0 σ))] j v σ
def T_LinkHouse_ready : List Int → AMem → (Int → AMem → Prop) → Prop := am_T B_LinkHouse_ready
abbrev y_LinkHouse_ready : MethodName := ⟨"LinkHouse", "ready", "(Z)V"⟩
def a_LinkHouse_ready : AC := (138, (y_LinkHouse_ready, prog_1_method_4_code, 1, (Option.none : Option Jvm.ClassFile.FieldType)), [0], 3, true, { frames := 8, cells := 0, slots := 0, locals := 220 }, T_LinkHouse_ready)
set_option maxRecDepth 100000 in
theorem ms_LinkHouse_ready : am_MSp a_LinkHouse_ready := am_ms_s 5163 1 5162 rfl (by decide +kernel)
abbrev k_LinkHouse_ready : List AC := []
set_option maxRecDepth 100000 in
theorem s_LinkHouse_ready : (am_chkR { frames := 8, cells := 0, slots := 0, locals := 220 } k_LinkHouse_ready && am_chkN c_LinkHouse_ready { frames := 8, cells := 0, slots := 0, locals := 220 } && c_LinkHouse_ready.all (am_chk "LinkHouse" prog_1_method_4_code 1 (Option.none : Option Jvm.ClassFile.FieldType) k_LinkHouse_ready) && c_LinkHouse_ready.all (am_chkL m_LinkHouse_ready) && decide (m_LinkHouse_ready[0]? = some (0, am_argp 0 [0], [])) && decide (am_argn [0] ≤ 1)) = true := by decide +kernel
set_option maxHeartbeats 150000 in
set_option maxRecDepth 100000 in
theorem h_LinkHouse_ready : ∀ X Q j v σ, B_LinkHouse_ready X Q j v σ → am_at GR k_LinkHouse_ready c_LinkHouse_ready m_LinkHouse_ready X Q 20 j v σ := fun X Q => am_sel_all (P := fun j v σ => am_at GR k_LinkHouse_ready c_LinkHouse_ready m_LinkHouse_ready X Q 20 j v σ) (⟨(am_v1_of (fun x0 σ h => h)), trivial⟩)
set_option maxRecDepth 100000 in
theorem S_LinkHouse_ready (l : Launch) (w : AW) : am_S l w GR a_LinkHouse_ready := am_sound (rt := 3) (cal := k_LinkHouse_ready) 138 y_LinkHouse_ready prog_1_method_4_code 1 (Option.none : Option Jvm.ClassFile.FieldType) [0] true { frames := 8, cells := 0, slots := 0, locals := 220 } B_LinkHouse_ready "LinkHouse" c_LinkHouse_ready m_LinkHouse_ready 20 ms_LinkHouse_ready (by decide +kernel) rfl rfl (fun _ h => absurd h List.not_mem_nil) s_LinkHouse_ready h_LinkHouse_ready
set_option maxRecDepth 100000 in
theorem of_LinkHouse_ready {Q : Int → AMem → Prop} {x0 : Int} {σ : AMem} (h : ∀ X : Nat → List Int → AMem → Prop, (∀ (x0 : Int) (σ : AMem), B_LinkHouse_ready_0 X Q x0 σ → X 0 [x0] σ) → X 0 [x0] σ) : T_LinkHouse_ready [x0] σ Q := fun X hX => h X (fun x0 σ h => hX 0 [x0] σ h)
set_option maxRecDepth 100000 in
theorem iff_LinkHouse_ready {Q : Int → AMem → Prop} {X : Nat → List Int → AMem → Prop} {x0 : Int} {σ : AMem} : T_LinkHouse_ready [x0] σ Q ↔ B_LinkHouse_ready_0 X Q x0 σ := ⟨fun h => h (fun j v σ => B_LinkHouse_ready X Q j v σ) (fun _ _ _ q => q), fun h _ hX => hX 0 _ _ h⟩
def c_LinkHouse_feed : List aE := [(0, 1, .iload_n 1, 1, 0, 0, []), (1, 0, .i2l, 1, 0, 0, []), (2, 0, .lconst 1, 1, 0, 0, []), (3, 0, .ldc2_w 179, 3, 8, 0, [3127]), (6, 0, .invokestatic 181, 3, 136, 0, [5092]), (9, 0, .invokestatic 185, 3, 137, 0, [5095]), (12, 0, .aload_n 0, 1, 0, 0, []), (13, 0, .getfield 189, 3, 0, 19, [0, 0, 1232]), (16, 0, .iload_n 1, 1, 0, 0, []), (17, 0, .iadd, 1, 0, 0, []), (18, 0, .sipush 8192, 3, 0, 0, []), (21, 0, .if_icmp .gt 7, 3, 0, 0, []), (24, 0, .iconst 1, 1, 0, 0, []), (25, 0, .goto 4, 3, 0, 0, []), (28, 0, .iconst 0, 1, 0, 0, []), (29, 2, .invokestatic 192, 3, 138, 0, [5161]), (32, 0, .iconst 0, 1, 0, 0, []), (33, 0, .istore 4, 2, 0, 0, []), (35, 3, .iload 4, 2, 0, 0, []), (37, 0, .iload_n 1, 1, 0, 0, []), (38, 0, .if_icmp .ge 34, 3, 0, 0, []), (41, 0, .aload_n 0, 1, 0, 0, []), (42, 0, .getfield 29, 3, 0, 4, [2, 0, 1217]), (45, 0, .aload_n 0, 1, 0, 0, []), (46, 0, .dup, 1, 0, 0, []), (47, 0, .getfield 189, 3, 0, 19, [0, 0, 1232]), (50, 0, .dup_x1, 1, 0, 0, []), (51, 0, .iconst 1, 1, 0, 0, []), (52, 0, .iadd, 1, 0, 0, []), (53, 0, .putfield 189, 3, 0, 19, [0, 0, 1232]), (56, 0, .lload_n 2, 1, 0, 0, []), (57, 0, .bipush 8, 2, 0, 0, []), (59, 0, .iload 4, 2, 0, 0, []), (61, 0, .imul, 1, 0, 0, []), (62, 0, .lshr, 1, 0, 0, []), (63, 0, .l2i, 1, 0, 0, []), (64, 0, .i2b, 1, 0, 0, []), (65, 0, .bastore, 1, 2, 0, []), (66, 0, .iinc 4 1, 3, 0, 0, []), (69, 0, .goto (-34), 3, 0, 0, []), (72, 0, .aload_n 0, 1, 0, 0, []), (73, 0, .getfield 189, 3, 0, 19, [0, 0, 1232]), (76, 0, .ireturn, 1, 0, 0, [])]
def m_LinkHouse_feed : List aT := [(0, [(0, 2), (1, 0), (2, 1)], []), (29, [(0, 2), (1, 0), (2, 1)], [0]), (35, [(0, 2), (1, 0), (2, 1), (4, 0)], [])]
def B_LinkHouse_feed_0 (X : Nat → List Int → AMem → Prop) (Q : Int → AMem → Prop) (x1 x2 : Int) (σ : AMem) : Prop :=
  T_LinkHouse_in [x1, 1, 8] σ (fun r1 σ2 => T_LinkHouse_need [r1] σ2 (fun r3 σ4 => am_r32 ((σ4 1 19) + x1) ∧ (if 8192 < ((σ4 1 19) + x1) then
  X 1 [1, x1, x2, 0] σ4
  else
  X 1 [1, x1, x2, 1] σ4)))
def B_LinkHouse_feed_1 (X : Nat → List Int → AMem → Prop) (Q : Int → AMem → Prop) (x1 x2 s0 : Int) (σ : AMem) : Prop :=
  T_LinkHouse_ready [s0] σ (fun r1 σ2 => X 2 [1, x1, x2, 0] σ2)
def B_LinkHouse_feed_2 (X : Nat → List Int → AMem → Prop) (Q : Int → AMem → Prop) (x1 x2 x4 : Int) (σ : AMem) : Prop :=
  (if x4 < x1 then
  am_r32 ((σ 1 19) + 1) ∧ am_let (am_upd σ 1 19 ((σ 1 19) + 1)) (fun σ1 => am_r32 (8 * x4) ∧ 0 ≤ (σ 1 19) ∧ (σ 1 19) < 8192 ∧ am_let (am_upd σ1 8276 (σ 1 19) (w8 (w8 (w32 (l_shr x2 (8 * x4)))))) (fun σ2 => am_r32 (x4 + 1) ∧ X 2 [1, x1, x2, (x4 + 1)] σ2))
  else
  Q (σ 1 19) σ)
def B_LinkHouse_feed : (Nat → List Int → AMem → Prop) → (Int → AMem → Prop) → Nat → List Int → AMem → Prop := fun X Q j v σ => am_sel [(am_v3 (fun t x1 x2 σ => if t = 1 then B_LinkHouse_feed_0 X Q x1 x2 σ else False)), (am_v4 (fun t x1 x2 s0 σ => if t = 1 then B_LinkHouse_feed_1 X Q x1 x2 s0 σ else False)), (am_v4 (fun t x1 x2 x4 σ => if t = 1 then B_LinkHouse_feed_2 X Q x1 x2 x4 σ else False))] j v σ
def T_LinkHouse_feed : List Int → AMem → (Int → AMem → Prop) → Prop := am_T B_LinkHouse_feed
abbrev y_LinkHouse_feed : MethodName := ⟨"LinkHouse", "feed", "(IJ)I"⟩
def a_LinkHouse_feed : AC := (139, (y_LinkHouse_feed, prog_1_method_6_code, 5, (Option.some Jvm.ClassFile.FieldType.int)), [2, 0, 1], 0, false, { frames := 9, cells := 0, slots := 0, locals := 248 }, T_LinkHouse_feed)
set_option maxRecDepth 100000 in
theorem ms_LinkHouse_feed : am_MSp a_LinkHouse_feed := am_ms_v 5091 1 5089 5090 0 rfl (by decide +kernel)
abbrev k_LinkHouse_feed : List AC := [a_LinkHouse_in, a_LinkHouse_need, a_LinkHouse_ready]
set_option maxRecDepth 100000 in
theorem s_LinkHouse_feed : (am_chkR { frames := 9, cells := 0, slots := 0, locals := 248 } k_LinkHouse_feed && am_chkN c_LinkHouse_feed { frames := 9, cells := 0, slots := 0, locals := 248 } && c_LinkHouse_feed.all (am_chk "LinkHouse" prog_1_method_6_code 5 (Option.some Jvm.ClassFile.FieldType.int) k_LinkHouse_feed) && c_LinkHouse_feed.all (am_chkL m_LinkHouse_feed) && decide (m_LinkHouse_feed[0]? = some (0, am_argp 0 [2, 0, 1], [])) && decide (am_argn [2, 0, 1] ≤ 5)) = true := by decide +kernel
set_option maxHeartbeats 150000 in
set_option maxRecDepth 100000 in
theorem h_LinkHouse_feed : ∀ X Q j v σ, B_LinkHouse_feed X Q j v σ → am_at GR k_LinkHouse_feed c_LinkHouse_feed m_LinkHouse_feed X Q 48 j v σ := fun X Q => am_sel_all (P := fun j v σ => am_at GR k_LinkHouse_feed c_LinkHouse_feed m_LinkHouse_feed X Q 48 j v σ) (⟨(am_v3_of (fun t x1 x2 σ h => am_tk (fun e => by subst e; exact fun h => h) h)), ⟨(am_v4_of (fun t x1 x2 s0 σ h => am_tk (fun e => by subst e; exact fun h => h) h)), ⟨(am_v4_of (fun t x1 x2 x4 σ h => am_tk (fun e => by subst e; exact fun h => h) h)), trivial⟩⟩⟩)
set_option maxRecDepth 100000 in
theorem S_LinkHouse_feed (l : Launch) (w : AW) : am_S l w GR a_LinkHouse_feed := am_sound (rt := 0) (cal := k_LinkHouse_feed) 139 y_LinkHouse_feed prog_1_method_6_code 5 (Option.some Jvm.ClassFile.FieldType.int) [2, 0, 1] false { frames := 9, cells := 0, slots := 0, locals := 248 } B_LinkHouse_feed "LinkHouse" c_LinkHouse_feed m_LinkHouse_feed 48 ms_LinkHouse_feed (by decide +kernel) rfl rfl (am_cal (S_LinkHouse_in l w) (am_cal (S_LinkHouse_need l w) (am_cal (S_LinkHouse_ready l w) (fun _ h => absurd h List.not_mem_nil)))) s_LinkHouse_feed h_LinkHouse_feed
set_option maxRecDepth 100000 in
theorem of_LinkHouse_feed {Q : Int → AMem → Prop} {x1 x2 : Int} {σ : AMem} (h : ∀ X : Nat → List Int → AMem → Prop, (∀ (x1 x2 : Int) (σ : AMem), B_LinkHouse_feed_0 X Q x1 x2 σ → X 0 [1, x1, x2] σ) → (∀ (x1 x2 s0 : Int) (σ : AMem), B_LinkHouse_feed_1 X Q x1 x2 s0 σ → X 1 [1, x1, x2, s0] σ) → (∀ (x1 x2 x4 : Int) (σ : AMem), B_LinkHouse_feed_2 X Q x1 x2 x4 σ → X 2 [1, x1, x2, x4] σ) → X 0 [1, x1, x2] σ) : T_LinkHouse_feed [1, x1, x2] σ Q := fun X hX => h X (fun x1 x2 σ h => hX 0 [1, x1, x2] σ h) (fun x1 x2 s0 σ h => hX 1 [1, x1, x2, s0] σ h) (fun x1 x2 x4 σ h => hX 2 [1, x1, x2, x4] σ h)
def c_Container_magic : List aE := [(0, 1, .iload_n 0, 1, 0, 0, []), (1, 0, .ifCond .ne 8, 3, 0, 0, []), (4, 0, .bipush 33, 2, 0, 0, []), (6, 0, .goto 66, 3, 0, 0, []), (9, 0, .iload_n 0, 1, 0, 0, []), (10, 0, .iconst 1, 1, 0, 0, []), (11, 0, .if_icmp .ne 8, 3, 0, 0, []), (14, 0, .bipush 60, 2, 0, 0, []), (16, 0, .goto 56, 3, 0, 0, []), (19, 0, .iload_n 0, 1, 0, 0, []), (20, 0, .iconst 2, 1, 0, 0, []), (21, 0, .if_icmp .ne 8, 3, 0, 0, []), (24, 0, .bipush 97, 2, 0, 0, []), (26, 0, .goto 46, 3, 0, 0, []), (29, 0, .iload_n 0, 1, 0, 0, []), (30, 0, .iconst 3, 1, 0, 0, []), (31, 0, .if_icmp .ne 8, 3, 0, 0, []), (34, 0, .bipush 114, 2, 0, 0, []), (36, 0, .goto 36, 3, 0, 0, []), (39, 0, .iload_n 0, 1, 0, 0, []), (40, 0, .iconst 4, 1, 0, 0, []), (41, 0, .if_icmp .ne 8, 3, 0, 0, []), (44, 0, .bipush 99, 2, 0, 0, []), (46, 0, .goto 26, 3, 0, 0, []), (49, 0, .iload_n 0, 1, 0, 0, []), (50, 0, .iconst 5, 1, 0, 0, []), (51, 0, .if_icmp .ne 8, 3, 0, 0, []), (54, 0, .bipush 104, 2, 0, 0, []), (56, 0, .goto 16, 3, 0, 0, []), (59, 0, .iload_n 0, 1, 0, 0, []), (60, 0, .bipush 6, 2, 0, 0, []), (62, 0, .if_icmp .ne 8, 3, 0, 0, []), (65, 0, .bipush 62, 2, 0, 0, []), (67, 0, .goto 5, 3, 0, 0, []), (70, 0, .bipush 10, 2, 0, 0, []), (72, 0, .ireturn, 1, 0, 0, [])]
def m_Container_magic : List aT := [(0, [(0, 0)], [])]
def B_Container_magic_0 (X : Nat → List Int → AMem → Prop) (Q : Int → AMem → Prop) (x0 : Int) (σ : AMem) : Prop :=
  (if x0 = 0 then
  Q 33 σ
  else
  (if x0 = 1 then
    Q 60 σ
    else
    (if x0 = 2 then
      Q 97 σ
      else
      (if x0 = 3 then
        Q 114 σ
        else
        (if x0 = 4 then
          Q 99 σ
          else
          (if x0 = 5 then
            Q 104 σ
            else
            (if x0 = 6 then
              Q 62 σ
              else
              Q 10 σ)))))))
def B_Container_magic : (Nat → List Int → AMem → Prop) → (Int → AMem → Prop) → Nat → List Int → AMem → Prop := fun X Q j v σ => am_sel [(am_v1 (fun x0 σ => B_Container_magic_0 X Q x0 σ))] j v σ
def T_Container_magic : List Int → AMem → (Int → AMem → Prop) → Prop := am_T B_Container_magic
abbrev y_Container_magic : MethodName := ⟨"LinkHouse$Container", "magic", "(I)I"⟩
def a_Container_magic : AC := (140, (y_Container_magic, prog_2_method_5_code, 1, (Option.some Jvm.ClassFile.FieldType.int)), [0], 0, true, { frames := 0, cells := 0, slots := 0, locals := 0 }, T_Container_magic)
set_option maxRecDepth 100000 in
theorem ms_Container_magic : am_MSp a_Container_magic := am_ms_s 5197 7 5196 rfl (by decide +kernel)
abbrev k_Container_magic : List AC := []
set_option maxRecDepth 100000 in
theorem s_Container_magic : (am_chkR { frames := 0, cells := 0, slots := 0, locals := 0 } k_Container_magic && am_chkN c_Container_magic { frames := 0, cells := 0, slots := 0, locals := 0 } && c_Container_magic.all (am_chk "LinkHouse$Container" prog_2_method_5_code 1 (Option.some Jvm.ClassFile.FieldType.int) k_Container_magic) && c_Container_magic.all (am_chkL m_Container_magic) && decide (m_Container_magic[0]? = some (0, am_argp 0 [0], [])) && decide (am_argn [0] ≤ 1)) = true := by decide +kernel
set_option maxHeartbeats 150000 in
set_option maxRecDepth 100000 in
theorem h_Container_magic : ∀ X Q j v σ, B_Container_magic X Q j v σ → am_at GR k_Container_magic c_Container_magic m_Container_magic X Q 41 j v σ := fun X Q => am_sel_all (P := fun j v σ => am_at GR k_Container_magic c_Container_magic m_Container_magic X Q 41 j v σ) (⟨(am_v1_of (fun x0 σ h => h)), trivial⟩)
set_option maxRecDepth 100000 in
theorem S_Container_magic (l : Launch) (w : AW) : am_S l w GR a_Container_magic := am_sound (rt := 0) (cal := k_Container_magic) 140 y_Container_magic prog_2_method_5_code 1 (Option.some Jvm.ClassFile.FieldType.int) [0] true { frames := 0, cells := 0, slots := 0, locals := 0 } B_Container_magic "LinkHouse$Container" c_Container_magic m_Container_magic 41 ms_Container_magic (by decide +kernel) rfl rfl (fun _ h => absurd h List.not_mem_nil) s_Container_magic h_Container_magic
set_option maxRecDepth 100000 in
theorem of_Container_magic {Q : Int → AMem → Prop} {x0 : Int} {σ : AMem} (h : ∀ X : Nat → List Int → AMem → Prop, (∀ (x0 : Int) (σ : AMem), B_Container_magic_0 X Q x0 σ → X 0 [x0] σ) → X 0 [x0] σ) : T_Container_magic [x0] σ Q := fun X hX => h X (fun x0 σ h => hX 0 [x0] σ h)
set_option maxRecDepth 100000 in
theorem iff_Container_magic {Q : Int → AMem → Prop} {X : Nat → List Int → AMem → Prop} {x0 : Int} {σ : AMem} : T_Container_magic [x0] σ Q ↔ B_Container_magic_0 X Q x0 σ := ⟨fun h => h (fun j v σ => B_Container_magic X Q j v σ) (fun _ _ _ q => q), fun h _ hX => hX 0 _ _ h⟩
def c_Container_isMagic : List aE := [(0, 1, .iconst 1, 1, 0, 0, []), (1, 0, .istore_n 1, 1, 0, 0, []), (2, 0, .iconst 0, 1, 0, 0, []), (3, 0, .istore_n 2, 1, 0, 0, []), (4, 2, .iload_n 2, 1, 0, 0, []), (5, 0, .bipush 8, 2, 0, 0, []), (7, 0, .if_icmp .ge 32, 3, 0, 0, []), (10, 0, .iload_n 1, 1, 0, 0, []), (11, 0, .ifCond .eq 20, 3, 0, 0, []), (14, 0, .aload_n 0, 1, 0, 0, []), (15, 0, .getfield 9, 3, 6, 0, [2, 0, 1194]), (18, 0, .iload_n 2, 1, 0, 0, []), (19, 0, .baload, 1, 2, 0, []), (20, 0, .iload_n 2, 1, 0, 0, []), (21, 0, .invokestatic 71, 3, 140, 0, [5195]), (24, 0, .if_icmp .ne 7, 3, 0, 0, []), (27, 0, .iconst 1, 1, 0, 0, []), (28, 0, .goto 4, 3, 0, 0, []), (31, 3, .iconst 0, 1, 0, 0, []), (32, 4, .istore_n 1, 1, 0, 0, []), (33, 0, .iinc 2 1, 3, 0, 0, []), (36, 0, .goto (-32), 3, 0, 0, []), (39, 0, .iload_n 1, 1, 0, 0, []), (40, 0, .ireturn, 1, 1, 0, [])]
def m_Container_isMagic : List aT := [(0, [(0, 2)], []), (4, [(0, 2), (1, 0), (2, 0)], []), (31, [(0, 2), (2, 0)], []), (32, [(0, 2), (2, 0)], [0])]
def B_Container_isMagic_0 (X : Nat → List Int → AMem → Prop) (Q : Int → AMem → Prop) (x0 : Int) (σ : AMem) : Prop :=
  X 1 [x0, 1, 0] σ
def B_Container_isMagic_1 (X : Nat → List Int → AMem → Prop) (Q : Int → AMem → Prop) (x0 x1 x2 : Int) (σ : AMem) : Prop :=
  (if x2 < 8 then
  (if x1 = 0 then
    X 2 [x0, x2] σ
    else
    (if ly_k x0 = 26 then (if ly_k (am_rd GR σ x0 0) = 2 then 0 ≤ x2 ∧ x2 < ly_l (am_rd GR σ x0 0) ∧ T_Container_magic [x2] σ (fun r1 σ2 => (if (σ (am_rd GR σ x0 0) x2) = r1 then
      X 3 [x0, x2, 1] σ2
      else
      X 2 [x0, x2] σ2)) else False) else False))
  else
  (if x1 = 0 ∨ x1 = 1 then Q x1 σ else False))
def B_Container_isMagic_2 (X : Nat → List Int → AMem → Prop) (Q : Int → AMem → Prop) (x0 x2 : Int) (σ : AMem) : Prop :=
  X 3 [x0, x2, 0] σ
def B_Container_isMagic_3 (X : Nat → List Int → AMem → Prop) (Q : Int → AMem → Prop) (x0 x2 s0 : Int) (σ : AMem) : Prop :=
  am_r32 (x2 + 1) ∧ X 1 [x0, s0, (x2 + 1)] σ
def B_Container_isMagic : (Nat → List Int → AMem → Prop) → (Int → AMem → Prop) → Nat → List Int → AMem → Prop := fun X Q j v σ => am_sel [(am_v1 (fun x0 σ => B_Container_isMagic_0 X Q x0 σ)), (am_v3 (fun x0 x1 x2 σ => B_Container_isMagic_1 X Q x0 x1 x2 σ)), (am_v2 (fun x0 x2 σ => B_Container_isMagic_2 X Q x0 x2 σ)), (am_v3 (fun x0 x2 s0 σ => B_Container_isMagic_3 X Q x0 x2 s0 σ))] j v σ
def T_Container_isMagic : List Int → AMem → (Int → AMem → Prop) → Prop := am_T B_Container_isMagic
abbrev y_Container_isMagic : MethodName := ⟨"LinkHouse$Container", "isMagic", "()Z"⟩
def a_Container_isMagic : AC := (141, (y_Container_isMagic, prog_2_method_6_code, 3, (Option.some Jvm.ClassFile.FieldType.boolean)), [2], 0, false, { frames := 1, cells := 0, slots := 0, locals := 28 }, T_Container_isMagic)
set_option maxRecDepth 100000 in
theorem ms_Container_isMagic : am_MSp a_Container_isMagic := am_ms_v 5194 7 5193 104010 6 rfl (by decide +kernel)
abbrev k_Container_isMagic : List AC := [a_Container_magic]
set_option maxRecDepth 100000 in
theorem s_Container_isMagic : (am_chkR { frames := 1, cells := 0, slots := 0, locals := 28 } k_Container_isMagic && am_chkN c_Container_isMagic { frames := 1, cells := 0, slots := 0, locals := 28 } && c_Container_isMagic.all (am_chk "LinkHouse$Container" prog_2_method_6_code 3 (Option.some Jvm.ClassFile.FieldType.boolean) k_Container_isMagic) && c_Container_isMagic.all (am_chkL m_Container_isMagic) && decide (m_Container_isMagic[0]? = some (0, am_argp 0 [2], [])) && decide (am_argn [2] ≤ 3)) = true := by decide +kernel
set_option maxHeartbeats 150000 in
set_option maxRecDepth 100000 in
theorem h_Container_isMagic : ∀ X Q j v σ, B_Container_isMagic X Q j v σ → am_at GR k_Container_isMagic c_Container_isMagic m_Container_isMagic X Q 29 j v σ := fun X Q => am_sel_all (P := fun j v σ => am_at GR k_Container_isMagic c_Container_isMagic m_Container_isMagic X Q 29 j v σ) (⟨(am_v1_of (fun x0 σ h => h)), ⟨(am_v3_of (fun x0 x1 x2 σ h => h)), ⟨(am_v2_of (fun x0 x2 σ h => h)), ⟨(am_v3_of (fun x0 x2 s0 σ h => h)), trivial⟩⟩⟩⟩)
set_option maxRecDepth 100000 in
theorem S_Container_isMagic (l : Launch) (w : AW) : am_S l w GR a_Container_isMagic := am_sound (rt := 0) (cal := k_Container_isMagic) 141 y_Container_isMagic prog_2_method_6_code 3 (Option.some Jvm.ClassFile.FieldType.boolean) [2] false { frames := 1, cells := 0, slots := 0, locals := 28 } B_Container_isMagic "LinkHouse$Container" c_Container_isMagic m_Container_isMagic 29 ms_Container_isMagic (by decide +kernel) rfl rfl (am_cal (S_Container_magic l w) (fun _ h => absurd h List.not_mem_nil)) s_Container_isMagic h_Container_isMagic
set_option maxRecDepth 100000 in
theorem of_Container_isMagic {Q : Int → AMem → Prop} {x0 : Int} {σ : AMem} (h : ∀ X : Nat → List Int → AMem → Prop, (∀ (x0 : Int) (σ : AMem), B_Container_isMagic_0 X Q x0 σ → X 0 [x0] σ) → (∀ (x0 x1 x2 : Int) (σ : AMem), B_Container_isMagic_1 X Q x0 x1 x2 σ → X 1 [x0, x1, x2] σ) → (∀ (x0 x2 : Int) (σ : AMem), B_Container_isMagic_2 X Q x0 x2 σ → X 2 [x0, x2] σ) → (∀ (x0 x2 s0 : Int) (σ : AMem), B_Container_isMagic_3 X Q x0 x2 s0 σ → X 3 [x0, x2, s0] σ) → X 0 [x0] σ) : T_Container_isMagic [x0] σ Q := fun X hX => h X (fun x0 σ h => hX 0 [x0] σ h) (fun x0 x1 x2 σ h => hX 1 [x0, x1, x2] σ h) (fun x0 x2 σ h => hX 2 [x0, x2] σ h) (fun x0 x2 s0 σ h => hX 3 [x0, x2, s0] σ h)
def c_Container_seat : List aE := [(0, 1, .aload_n 0, 1, 0, 0, []), (1, 0, .getfield 17, 3, 6, 1, [2, 0, 1195]), (4, 0, .aload_n 0, 1, 0, 0, []), (5, 0, .getfield 34, 3, 6, 3, [0, 0, 1198]), (8, 0, .iconst 1, 1, 0, 0, []), (9, 0, .isub, 1, 0, 0, []), (10, 0, .aaload, 1, 5, 0, []), (11, 0, .astore_n 3, 1, 0, 0, []), (12, 0, .aload_n 3, 1, 0, 0, []), (13, 0, .aload_n 0, 1, 0, 0, []), (14, 0, .getfield 9, 3, 6, 0, [2, 0, 1194]), (17, 0, .putfield 63, 3, 7, 0, [2, 0, 1064]), (20, 0, .aload_n 3, 1, 0, 0, []), (21, 0, .iload_n 1, 1, 0, 0, []), (22, 0, .putfield 64, 3, 7, 1, [0, 0, 1067]), (25, 0, .aload_n 3, 1, 0, 0, []), (26, 0, .iload_n 2, 1, 0, 0, []), (27, 0, .putfield 67, 3, 7, 2, [0, 0, 1070]), (30, 0, .aload_n 3, 1, 0, 0, []), (31, 0, .iconst 0, 1, 0, 0, []), (32, 0, .putfield 53, 3, 7, 7, [0, 1, 1080]), (35, 0, .aload_n 3, 1, 0, 0, []), (36, 0, .iconst 0, 1, 0, 0, []), (37, 0, .putfield 68, 3, 7, 6, [0, 1, 1078]), (40, 0, .return_, 1, 0, 0, [])]
def m_Container_seat : List aT := [(0, [(0, 2), (1, 0), (2, 0)], [])]
def B_Container_seat_0 (X : Nat → List Int → AMem → Prop) (Q : Int → AMem → Prop) (x0 x1 x2 : Int) (σ : AMem) : Prop :=
  (if ly_k x0 = 26 then (if ly_k x0 = 26 then am_r32 ((am_rd GR σ x0 3) - 1) ∧ (if ly_k (am_rd GR σ x0 1) = 5 then 0 ≤ ((am_rd GR σ x0 3) - 1) ∧ ((am_rd GR σ x0 3) - 1) < ly_l (am_rd GR σ x0 1) ∧ am_let (σ (am_rd GR σ x0 1) ((am_rd GR σ x0 3) - 1)) (fun y1 => (if ly_k x0 = 26 then (if ly_k y1 = 27 then (if ly_fin y1 0 = 0 then am_let (am_upd σ y1 0 (am_rd GR σ x0 0)) (fun σ2 => (if ly_k y1 = 27 then (if ly_fin y1 1 = 0 then am_let (am_upd σ2 y1 1 x1) (fun σ3 => (if ly_k y1 = 27 then (if ly_fin y1 2 = 0 then am_let (am_upd σ3 y1 2 x2) (fun σ4 => (if ly_k y1 = 27 then (if ly_fin y1 7 = 0 then am_let (am_upd σ4 y1 7 0) (fun σ5 => (if ly_k y1 = 27 then (if ly_fin y1 6 = 0 then am_let (am_upd σ5 y1 6 0) (fun σ6 => Q 0 σ6) else False) else False)) else False) else False)) else False) else False)) else False) else False)) else False) else False) else False)) else False) else False) else False)
def B_Container_seat : (Nat → List Int → AMem → Prop) → (Int → AMem → Prop) → Nat → List Int → AMem → Prop := fun X Q j v σ => am_sel [(am_v3 (fun x0 x1 x2 σ => B_Container_seat_0 X Q x0 x1 x2 σ))] j v σ
def T_Container_seat : List Int → AMem → (Int → AMem → Prop) → Prop := am_T B_Container_seat
abbrev y_Container_seat : MethodName := ⟨"LinkHouse$Container", "seat", "(II)V"⟩
def a_Container_seat : AC := (142, (y_Container_seat, prog_2_method_4_code, 4, (Option.none : Option Jvm.ClassFile.FieldType)), [2, 0, 0], 3, false, { frames := 0, cells := 0, slots := 0, locals := 0 }, T_Container_seat)
set_option maxRecDepth 100000 in
theorem ms_Container_seat : am_MSp a_Container_seat := am_ms_v 5205 7 5204 104012 6 rfl (by decide +kernel)
abbrev k_Container_seat : List AC := []
set_option maxRecDepth 100000 in
theorem s_Container_seat : (am_chkR { frames := 0, cells := 0, slots := 0, locals := 0 } k_Container_seat && am_chkN c_Container_seat { frames := 0, cells := 0, slots := 0, locals := 0 } && c_Container_seat.all (am_chk "LinkHouse$Container" prog_2_method_4_code 4 (Option.none : Option Jvm.ClassFile.FieldType) k_Container_seat) && c_Container_seat.all (am_chkL m_Container_seat) && decide (m_Container_seat[0]? = some (0, am_argp 0 [2, 0, 0], [])) && decide (am_argn [2, 0, 0] ≤ 4)) = true := by decide +kernel
set_option maxHeartbeats 150000 in
set_option maxRecDepth 100000 in
theorem h_Container_seat : ∀ X Q j v σ, B_Container_seat X Q j v σ → am_at GR k_Container_seat c_Container_seat m_Container_seat X Q 30 j v σ := fun X Q => am_sel_all (P := fun j v σ => am_at GR k_Container_seat c_Container_seat m_Container_seat X Q 30 j v σ) (⟨(am_v3_of (fun x0 x1 x2 σ h => h)), trivial⟩)
set_option maxRecDepth 100000 in
theorem S_Container_seat (l : Launch) (w : AW) : am_S l w GR a_Container_seat := am_sound (rt := 3) (cal := k_Container_seat) 142 y_Container_seat prog_2_method_4_code 4 (Option.none : Option Jvm.ClassFile.FieldType) [2, 0, 0] false { frames := 0, cells := 0, slots := 0, locals := 0 } B_Container_seat "LinkHouse$Container" c_Container_seat m_Container_seat 30 ms_Container_seat (by decide +kernel) rfl rfl (fun _ h => absurd h List.not_mem_nil) s_Container_seat h_Container_seat
set_option maxRecDepth 100000 in
theorem of_Container_seat {Q : Int → AMem → Prop} {x0 x1 x2 : Int} {σ : AMem} (h : ∀ X : Nat → List Int → AMem → Prop, (∀ (x0 x1 x2 : Int) (σ : AMem), B_Container_seat_0 X Q x0 x1 x2 σ → X 0 [x0, x1, x2] σ) → X 0 [x0, x1, x2] σ) : T_Container_seat [x0, x1, x2] σ Q := fun X hX => h X (fun x0 x1 x2 σ h => hX 0 [x0, x1, x2] σ h)
set_option maxRecDepth 100000 in
theorem iff_Container_seat {Q : Int → AMem → Prop} {X : Nat → List Int → AMem → Prop} {x0 x1 x2 : Int} {σ : AMem} : T_Container_seat [x0, x1, x2] σ Q ↔ B_Container_seat_0 X Q x0 x1 x2 σ := ⟨fun h => h (fun j v σ => B_Container_seat X Q j v σ) (fun _ _ _ q => q), fun h _ hX => hX 0 _ _ h⟩
def c_Part_lies : List aE := [(0, 1, .lload_n 1, 1, 0, 0, []), (1, 0, .lconst 0, 1, 0, 0, []), (2, 0, .lcmp, 1, 0, 0, []), (3, 0, .ifCond .lt 35, 3, 0, 0, []), (6, 0, .lload_n 3, 1, 0, 0, []), (7, 0, .lconst 0, 1, 0, 0, []), (8, 0, .lcmp, 1, 0, 0, []), (9, 0, .ifCond .lt 29, 3, 0, 0, []), (12, 0, .lload_n 1, 1, 0, 0, []), (13, 0, .aload_n 0, 1, 0, 0, []), (14, 0, .getfield 97, 3, 7, 2, [0, 0, 1069]), (17, 0, .i2l, 1, 0, 0, []), (18, 0, .lcmp, 1, 0, 0, []), (19, 0, .ifCond .gt 19, 3, 0, 0, []), (22, 0, .lload_n 3, 1, 0, 0, []), (23, 0, .aload_n 0, 1, 0, 0, []), (24, 0, .getfield 97, 3, 7, 2, [0, 0, 1069]), (27, 0, .i2l, 1, 0, 0, []), (28, 0, .lload_n 1, 1, 0, 0, []), (29, 0, .lsub, 1, 0, 0, []), (30, 0, .lcmp, 1, 0, 0, []), (31, 0, .ifCond .gt 7, 3, 0, 0, []), (34, 0, .iconst 1, 1, 0, 0, []), (35, 0, .goto 4, 3, 0, 0, []), (38, 0, .iconst 0, 1, 0, 0, []), (39, 0, .ireturn, 1, 1, 0, [])]
def m_Part_lies : List aT := [(0, [(0, 2), (1, 1), (3, 1)], [])]
def B_Part_lies_0 (X : Nat → List Int → AMem → Prop) (Q : Int → AMem → Prop) (x0 x1 x3 : Int) (σ : AMem) : Prop :=
  (if x1 < 0 then
  Q 0 σ
  else
  (if x3 < 0 then
    Q 0 σ
    else
    (if ly_k x0 = 27 then (if (am_rd GR σ x0 2) < x1 then
      Q 0 σ
      else
      (if ly_k x0 = 27 then (if (w64 ((am_rd GR σ x0 2) - x1)) < x3 then
        Q 0 σ
        else
        Q 1 σ) else False)) else False)))
def B_Part_lies : (Nat → List Int → AMem → Prop) → (Int → AMem → Prop) → Nat → List Int → AMem → Prop := fun X Q j v σ => am_sel [(am_v3 (fun x0 x1 x3 σ => B_Part_lies_0 X Q x0 x1 x3 σ))] j v σ
def T_Part_lies : List Int → AMem → (Int → AMem → Prop) → Prop := am_T B_Part_lies
abbrev y_Part_lies : MethodName := ⟨"LinkHouse$Part", "lies", "(JJ)Z"⟩
def a_Part_lies : AC := (143, (y_Part_lies, prog_6_method_3_code, 5, (Option.some Jvm.ClassFile.FieldType.boolean)), [2, 1, 1], 0, false, { frames := 0, cells := 0, slots := 0, locals := 0 }, T_Part_lies)
set_option maxRecDepth 100000 in
theorem ms_Part_lies : am_MSp a_Part_lies := am_ms_v 5224 8 5223 104013 7 rfl (by decide +kernel)
abbrev k_Part_lies : List AC := []
set_option maxRecDepth 100000 in
theorem s_Part_lies : (am_chkR { frames := 0, cells := 0, slots := 0, locals := 0 } k_Part_lies && am_chkN c_Part_lies { frames := 0, cells := 0, slots := 0, locals := 0 } && c_Part_lies.all (am_chk "LinkHouse$Part" prog_6_method_3_code 5 (Option.some Jvm.ClassFile.FieldType.boolean) k_Part_lies) && c_Part_lies.all (am_chkL m_Part_lies) && decide (m_Part_lies[0]? = some (0, am_argp 0 [2, 1, 1], [])) && decide (am_argn [2, 1, 1] ≤ 5)) = true := by decide +kernel
set_option maxHeartbeats 150000 in
set_option maxRecDepth 100000 in
theorem h_Part_lies : ∀ X Q j v σ, B_Part_lies X Q j v σ → am_at GR k_Part_lies c_Part_lies m_Part_lies X Q 31 j v σ := fun X Q => am_sel_all (P := fun j v σ => am_at GR k_Part_lies c_Part_lies m_Part_lies X Q 31 j v σ) (⟨(am_v3_of (fun x0 x1 x3 σ h => h)), trivial⟩)
set_option maxRecDepth 100000 in
theorem S_Part_lies (l : Launch) (w : AW) : am_S l w GR a_Part_lies := am_sound (rt := 0) (cal := k_Part_lies) 143 y_Part_lies prog_6_method_3_code 5 (Option.some Jvm.ClassFile.FieldType.boolean) [2, 1, 1] false { frames := 0, cells := 0, slots := 0, locals := 0 } B_Part_lies "LinkHouse$Part" c_Part_lies m_Part_lies 31 ms_Part_lies (by decide +kernel) rfl rfl (fun _ h => absurd h List.not_mem_nil) s_Part_lies h_Part_lies
set_option maxRecDepth 100000 in
theorem of_Part_lies {Q : Int → AMem → Prop} {x0 x1 x3 : Int} {σ : AMem} (h : ∀ X : Nat → List Int → AMem → Prop, (∀ (x0 x1 x3 : Int) (σ : AMem), B_Part_lies_0 X Q x0 x1 x3 σ → X 0 [x0, x1, x3] σ) → X 0 [x0, x1, x3] σ) : T_Part_lies [x0, x1, x3] σ Q := fun X hX => h X (fun x0 x1 x3 σ h => hX 0 [x0, x1, x3] σ h)
set_option maxRecDepth 100000 in
theorem iff_Part_lies {Q : Int → AMem → Prop} {X : Nat → List Int → AMem → Prop} {x0 x1 x3 : Int} {σ : AMem} : T_Part_lies [x0, x1, x3] σ Q ↔ B_Part_lies_0 X Q x0 x1 x3 σ := ⟨fun h => h (fun j v σ => B_Part_lies X Q j v σ) (fun _ _ _ q => q), fun h _ hX => hX 0 _ _ h⟩
def c_Part_row : List aE := [(0, 1, .aload_n 0, 1, 0, 0, []), (1, 0, .getfield 9, 3, 7, 8, [2, 0, 1082]), (4, 0, .iload_n 1, 1, 0, 0, []), (5, 0, .aload_n 0, 1, 0, 0, []), (6, 0, .lload_n 2, 1, 0, 0, []), (7, 0, .ldc2_w 110, 3, 4, 0, [3053]), (10, 0, .ladd, 1, 0, 0, []), (11, 0, .iconst 4, 1, 0, 0, []), (12, 0, .invokevirtual 112, 3, 11, 7, [3000]), (15, 0, .l2i, 1, 0, 0, []), (16, 0, .iastore, 1, 0, 0, []), (17, 0, .aload_n 0, 1, 0, 0, []), (18, 0, .getfield 24, 3, 7, 12, [2, 0, 1090]), (21, 0, .iload_n 1, 1, 0, 0, []), (22, 0, .aload_n 0, 1, 0, 0, []), (23, 0, .lload_n 2, 1, 0, 0, []), (24, 0, .ldc2_w 176, 3, 8, 0, [5229]), (27, 0, .ladd, 1, 0, 0, []), (28, 0, .bipush 8, 2, 0, 0, []), (30, 0, .invokevirtual 112, 3, 11, 7, [3000]), (33, 0, .lastore, 1, 0, 0, []), (34, 0, .aload_n 0, 1, 0, 0, []), (35, 0, .getfield 21, 3, 7, 11, [2, 0, 1087]), (38, 0, .iload_n 1, 1, 0, 0, []), (39, 0, .aload_n 0, 1, 0, 0, []), (40, 0, .lload_n 2, 1, 0, 0, []), (41, 0, .ldc2_w 136, 3, 24, 0, [5220]), (44, 0, .ladd, 1, 0, 0, []), (45, 0, .bipush 8, 2, 0, 0, []), (47, 0, .invokevirtual 112, 3, 11, 7, [3000]), (50, 0, .l2i, 1, 0, 0, []), (51, 0, .iastore, 1, 0, 0, []), (52, 0, .aload_n 0, 1, 0, 0, []), (53, 0, .getfield 28, 3, 7, 13, [2, 0, 1092]), (56, 0, .iload_n 1, 1, 0, 0, []), (57, 0, .aload_n 0, 1, 0, 0, []), (58, 0, .lload_n 2, 1, 0, 0, []), (59, 0, .ldc2_w 178, 3, 32, 0, [5230]), (62, 0, .ladd, 1, 0, 0, []), (63, 0, .bipush 8, 2, 0, 0, []), (65, 0, .invokevirtual 112, 3, 11, 7, [3000]), (68, 0, .lastore, 1, 0, 0, []), (69, 0, .aload_n 0, 1, 0, 0, []), (70, 0, .getfield 15, 3, 7, 9, [2, 0, 1084]), (73, 0, .iload_n 1, 1, 0, 0, []), (74, 0, .aload_n 0, 1, 0, 0, []), (75, 0, .lload_n 2, 1, 0, 0, []), (76, 0, .ldc2_w 132, 3, 40, 0, [5218]), (79, 0, .ladd, 1, 0, 0, []), (80, 0, .iconst 4, 1, 0, 0, []), (81, 0, .invokevirtual 112, 3, 11, 7, [3000]), (84, 0, .l2i, 1, 0, 0, []), (85, 0, .iastore, 1, 0, 0, []), (86, 0, .aload_n 0, 1, 0, 0, []), (87, 0, .getfield 18, 3, 7, 10, [2, 0, 1085]), (90, 0, .iload_n 1, 1, 0, 0, []), (91, 0, .aload_n 0, 1, 0, 0, []), (92, 0, .lload_n 2, 1, 0, 0, []), (93, 0, .ldc2_w 180, 3, 44, 0, [5231]), (96, 0, .ladd, 1, 0, 0, []), (97, 0, .iconst 4, 1, 0, 0, []), (98, 0, .invokevirtual 112, 3, 11, 7, [3000]), (101, 0, .l2i, 1, 0, 0, []), (102, 0, .iastore, 1, 0, 0, []), (103, 0, .aload_n 0, 1, 0, 0, []), (104, 0, .getfield 31, 3, 7, 14, [2, 0, 1095]), (107, 0, .iload_n 1, 1, 0, 0, []), (108, 0, .aload_n 0, 1, 0, 0, []), (109, 0, .lload_n 2, 1, 0, 0, []), (110, 0, .ldc2_w 182, 3, 48, 0, [3155]), (113, 0, .ladd, 1, 0, 0, []), (114, 0, .bipush 8, 2, 0, 0, []), (116, 0, .invokevirtual 112, 3, 11, 7, [3000]), (119, 0, .lastore, 1, 0, 0, []), (120, 0, .return_, 1, 0, 0, [])]
def m_Part_row : List aT := [(0, [(0, 2), (1, 0), (2, 1)], [])]
def B_Part_row_0 (X : Nat → List Int → AMem → Prop) (Q : Int → AMem → Prop) (x0 x1 x2 : Int) (σ : AMem) : Prop :=
  (if ly_k x0 = 27 then (if ly_k x0 = 27 then T_Part_number [x0, (w64 (x2 + 4)), 4] σ (fun r1 σ2 => (if ly_k (am_rd GR σ x0 8) = 1 then 0 ≤ x1 ∧ x1 < ly_l (am_rd GR σ x0 8) ∧ am_let (am_upd σ2 (am_rd GR σ x0 8) x1 (w32 r1)) (fun σ3 => (if ly_k x0 = 27 then (if ly_k x0 = 27 then T_Part_number [x0, (w64 (x2 + 8)), 8] σ3 (fun r4 σ5 => (if ly_k (am_rd GR σ3 x0 12) = 4 then 0 ≤ x1 ∧ x1 < ly_l (am_rd GR σ3 x0 12) ∧ am_let (am_upd σ5 (am_rd GR σ3 x0 12) x1 r4) (fun σ6 => (if ly_k x0 = 27 then (if ly_k x0 = 27 then T_Part_number [x0, (w64 (x2 + 24)), 8] σ6 (fun r7 σ8 => (if ly_k (am_rd GR σ6 x0 11) = 1 then 0 ≤ x1 ∧ x1 < ly_l (am_rd GR σ6 x0 11) ∧ am_let (am_upd σ8 (am_rd GR σ6 x0 11) x1 (w32 r7)) (fun σ9 => (if ly_k x0 = 27 then (if ly_k x0 = 27 then T_Part_number [x0, (w64 (x2 + 32)), 8] σ9 (fun r10 σ11 => (if ly_k (am_rd GR σ9 x0 13) = 4 then 0 ≤ x1 ∧ x1 < ly_l (am_rd GR σ9 x0 13) ∧ am_let (am_upd σ11 (am_rd GR σ9 x0 13) x1 r10) (fun σ12 => (if ly_k x0 = 27 then (if ly_k x0 = 27 then T_Part_number [x0, (w64 (x2 + 40)), 4] σ12 (fun r13 σ14 => (if ly_k (am_rd GR σ12 x0 9) = 1 then 0 ≤ x1 ∧ x1 < ly_l (am_rd GR σ12 x0 9) ∧ am_let (am_upd σ14 (am_rd GR σ12 x0 9) x1 (w32 r13)) (fun σ15 => (if ly_k x0 = 27 then (if ly_k x0 = 27 then T_Part_number [x0, (w64 (x2 + 44)), 4] σ15 (fun r16 σ17 => (if ly_k (am_rd GR σ15 x0 10) = 1 then 0 ≤ x1 ∧ x1 < ly_l (am_rd GR σ15 x0 10) ∧ am_let (am_upd σ17 (am_rd GR σ15 x0 10) x1 (w32 r16)) (fun σ18 => (if ly_k x0 = 27 then (if ly_k x0 = 27 then T_Part_number [x0, (w64 (x2 + 48)), 8] σ18 (fun r19 σ20 => (if ly_k (am_rd GR σ18 x0 14) = 4 then 0 ≤ x1 ∧ x1 < ly_l (am_rd GR σ18 x0 14) ∧ am_let (am_upd σ20 (am_rd GR σ18 x0 14) x1 r19) (fun σ21 => Q 0 σ21) else False)) else False) else False)) else False)) else False) else False)) else False)) else False) else False)) else False)) else False) else False)) else False)) else False) else False)) else False)) else False) else False)) else False)) else False) else False)
def B_Part_row : (Nat → List Int → AMem → Prop) → (Int → AMem → Prop) → Nat → List Int → AMem → Prop := fun X Q j v σ => am_sel [(am_v3 (fun x0 x1 x2 σ => B_Part_row_0 X Q x0 x1 x2 σ))] j v σ
def T_Part_row : List Int → AMem → (Int → AMem → Prop) → Prop := am_T B_Part_row
abbrev y_Part_row : MethodName := ⟨"LinkHouse$Part", "row", "(IJ)V"⟩
def a_Part_row : AC := (144, (y_Part_row, prog_6_method_10_code, 4, (Option.none : Option Jvm.ClassFile.FieldType)), [2, 0, 1], 3, false, { frames := 1, cells := 0, slots := 0, locals := 34 }, T_Part_row)
set_option maxRecDepth 100000 in
theorem ms_Part_row : am_MSp a_Part_row := am_ms_v 5228 8 5227 104014 7 rfl (by decide +kernel)
abbrev k_Part_row : List AC := [a_Part_number]
set_option maxRecDepth 100000 in
theorem s_Part_row : (am_chkR { frames := 1, cells := 0, slots := 0, locals := 34 } k_Part_row && am_chkN c_Part_row { frames := 1, cells := 0, slots := 0, locals := 34 } && c_Part_row.all (am_chk "LinkHouse$Part" prog_6_method_10_code 4 (Option.none : Option Jvm.ClassFile.FieldType) k_Part_row) && c_Part_row.all (am_chkL m_Part_row) && decide (m_Part_row[0]? = some (0, am_argp 0 [2, 0, 1], [])) && decide (am_argn [2, 0, 1] ≤ 4)) = true := by decide +kernel
set_option maxHeartbeats 150000 in
set_option maxRecDepth 100000 in
theorem h_Part_row : ∀ X Q j v σ, B_Part_row X Q j v σ → am_at GR k_Part_row c_Part_row m_Part_row X Q 80 j v σ := fun X Q => am_sel_all (P := fun j v σ => am_at GR k_Part_row c_Part_row m_Part_row X Q 80 j v σ) (⟨(am_v3_of (fun x0 x1 x2 σ h => h)), trivial⟩)
set_option maxRecDepth 100000 in
theorem S_Part_row (l : Launch) (w : AW) : am_S l w GR a_Part_row := am_sound (rt := 3) (cal := k_Part_row) 144 y_Part_row prog_6_method_10_code 4 (Option.none : Option Jvm.ClassFile.FieldType) [2, 0, 1] false { frames := 1, cells := 0, slots := 0, locals := 34 } B_Part_row "LinkHouse$Part" c_Part_row m_Part_row 80 ms_Part_row (by decide +kernel) rfl rfl (am_cal (S_Part_number l w) (fun _ h => absurd h List.not_mem_nil)) s_Part_row h_Part_row
set_option maxRecDepth 100000 in
theorem of_Part_row {Q : Int → AMem → Prop} {x0 x1 x2 : Int} {σ : AMem} (h : ∀ X : Nat → List Int → AMem → Prop, (∀ (x0 x1 x2 : Int) (σ : AMem), B_Part_row_0 X Q x0 x1 x2 σ → X 0 [x0, x1, x2] σ) → X 0 [x0, x1, x2] σ) : T_Part_row [x0, x1, x2] σ Q := fun X hX => h X (fun x0 x1 x2 σ h => hX 0 [x0, x1, x2] σ h)
set_option maxRecDepth 100000 in
theorem iff_Part_row {Q : Int → AMem → Prop} {X : Nat → List Int → AMem → Prop} {x0 x1 x2 : Int} {σ : AMem} : T_Part_row [x0, x1, x2] σ Q ↔ B_Part_row_0 X Q x0 x1 x2 σ := ⟨fun h => h (fun j v σ => B_Part_row X Q j v σ) (fun _ _ _ q => q), fun h _ hX => hX 0 _ _ h⟩
def c_Part_isPower : List aE := [(0, 1, .lload_n 0, 1, 0, 0, []), (1, 0, .lconst 0, 1, 0, 0, []), (2, 0, .lcmp, 1, 0, 0, []), (3, 0, .ifCond .le 25, 3, 0, 0, []), (6, 0, .lload_n 0, 1, 0, 0, []), (7, 0, .ldc2_w 100, 3, 4096, 0, [5235]), (10, 0, .lcmp, 1, 0, 0, []), (11, 0, .ifCond .gt 17, 3, 0, 0, []), (14, 0, .lload_n 0, 1, 0, 0, []), (15, 0, .lload_n 0, 1, 0, 0, []), (16, 0, .lconst 1, 1, 0, 0, []), (17, 0, .lsub, 1, 0, 0, []), (18, 0, .land, 1, 0, 0, []), (19, 0, .lconst 0, 1, 0, 0, []), (20, 0, .lcmp, 1, 0, 0, []), (21, 0, .ifCond .ne 7, 3, 0, 0, []), (24, 0, .iconst 1, 1, 0, 0, []), (25, 0, .goto 4, 3, 0, 0, []), (28, 0, .iconst 0, 1, 0, 0, []), (29, 0, .ireturn, 1, 1, 0, [])]
def m_Part_isPower : List aT := [(0, [(0, 1)], [])]
def B_Part_isPower_0 (X : Nat → List Int → AMem → Prop) (Q : Int → AMem → Prop) (x0 : Int) (σ : AMem) : Prop :=
  (if 0 < x0 then
  (if 4096 < x0 then
    Q 0 σ
    else
    (if (l_and x0 (w64 (x0 - 1))) = 0 then
      Q 1 σ
      else
      Q 0 σ))
  else
  Q 0 σ)
def B_Part_isPower : (Nat → List Int → AMem → Prop) → (Int → AMem → Prop) → Nat → List Int → AMem → Prop := fun X Q j v σ => am_sel [(am_v1 (fun x0 σ => B_Part_isPower_0 X Q x0 σ))] j v σ
def T_Part_isPower : List Int → AMem → (Int → AMem → Prop) → Prop := am_T B_Part_isPower
abbrev y_Part_isPower : MethodName := ⟨"LinkHouse$Part", "isPower", "(J)Z"⟩
def a_Part_isPower : AC := (145, (y_Part_isPower, prog_6_method_4_code, 2, (Option.some Jvm.ClassFile.FieldType.boolean)), [1], 0, true, { frames := 0, cells := 0, slots := 0, locals := 0 }, T_Part_isPower)
set_option maxRecDepth 100000 in
theorem ms_Part_isPower : am_MSp a_Part_isPower := am_ms_s 5234 8 5233 rfl (by decide +kernel)
abbrev k_Part_isPower : List AC := []
set_option maxRecDepth 100000 in
theorem s_Part_isPower : (am_chkR { frames := 0, cells := 0, slots := 0, locals := 0 } k_Part_isPower && am_chkN c_Part_isPower { frames := 0, cells := 0, slots := 0, locals := 0 } && c_Part_isPower.all (am_chk "LinkHouse$Part" prog_6_method_4_code 2 (Option.some Jvm.ClassFile.FieldType.boolean) k_Part_isPower) && c_Part_isPower.all (am_chkL m_Part_isPower) && decide (m_Part_isPower[0]? = some (0, am_argp 0 [1], [])) && decide (am_argn [1] ≤ 2)) = true := by decide +kernel
set_option maxHeartbeats 150000 in
set_option maxRecDepth 100000 in
theorem h_Part_isPower : ∀ X Q j v σ, B_Part_isPower X Q j v σ → am_at GR k_Part_isPower c_Part_isPower m_Part_isPower X Q 25 j v σ := fun X Q => am_sel_all (P := fun j v σ => am_at GR k_Part_isPower c_Part_isPower m_Part_isPower X Q 25 j v σ) (⟨(am_v1_of (fun x0 σ h => h)), trivial⟩)
set_option maxRecDepth 100000 in
theorem S_Part_isPower (l : Launch) (w : AW) : am_S l w GR a_Part_isPower := am_sound (rt := 0) (cal := k_Part_isPower) 145 y_Part_isPower prog_6_method_4_code 2 (Option.some Jvm.ClassFile.FieldType.boolean) [1] true { frames := 0, cells := 0, slots := 0, locals := 0 } B_Part_isPower "LinkHouse$Part" c_Part_isPower m_Part_isPower 25 ms_Part_isPower (by decide +kernel) rfl rfl (fun _ h => absurd h List.not_mem_nil) s_Part_isPower h_Part_isPower
set_option maxRecDepth 100000 in
theorem of_Part_isPower {Q : Int → AMem → Prop} {x0 : Int} {σ : AMem} (h : ∀ X : Nat → List Int → AMem → Prop, (∀ (x0 : Int) (σ : AMem), B_Part_isPower_0 X Q x0 σ → X 0 [x0] σ) → X 0 [x0] σ) : T_Part_isPower [x0] σ Q := fun X hX => h X (fun x0 σ h => hX 0 [x0] σ h)
set_option maxRecDepth 100000 in
theorem iff_Part_isPower {Q : Int → AMem → Prop} {X : Nat → List Int → AMem → Prop} {x0 : Int} {σ : AMem} : T_Part_isPower [x0] σ Q ↔ B_Part_isPower_0 X Q x0 σ := ⟨fun h => h (fun j v σ => B_Part_isPower X Q j v σ) (fun _ _ _ q => q), fun h _ hX => hX 0 _ _ h⟩
def c_Part_isSymbol : List aE := [(0, 1, .aload_n 0, 1, 0, 0, []), (1, 0, .getfield 40, 3, 7, 17, [2, 0, 1101]), (4, 0, .iload_n 1, 1, 0, 0, []), (5, 0, .iaload, 1, 0, 0, []), (6, 0, .istore_n 2, 1, 0, 0, []), (7, 0, .aload_n 0, 1, 0, 0, []), (8, 0, .getfield 37, 3, 7, 16, [2, 0, 1099]), (11, 0, .iload_n 1, 1, 0, 0, []), (12, 0, .iaload, 1, 0, 0, []), (13, 0, .iconst 2, 1, 0, 0, []), (14, 0, .if_icmp .gt 23, 3, 0, 0, []), (17, 0, .iload_n 2, 1, 0, 0, []), (18, 0, .ldc 189, 2, 65521, 0, [3072]), (20, 0, .if_icmp .eq 19, 3, 0, 0, []), (23, 0, .iload_n 2, 1, 0, 0, []), (24, 0, .ldc 190, 2, 65522, 0, [3073]), (26, 0, .if_icmp .eq 13, 3, 0, 0, []), (29, 0, .iload_n 2, 1, 0, 0, []), (30, 0, .aload_n 0, 1, 0, 0, []), (31, 0, .getfield 142, 3, 7, 3, [0, 0, 1072]), (34, 0, .if_icmp .lt 5, 3, 0, 0, []), (37, 0, .iconst 0, 1, 0, 0, []), (38, 0, .ireturn, 1, 1, 0, []), (39, 2, .aload_n 0, 1, 0, 0, []), (40, 0, .getfield 37, 3, 7, 16, [2, 0, 1099]), (43, 0, .iload_n 1, 1, 0, 0, []), (44, 0, .iaload, 1, 0, 0, []), (45, 0, .ifCond .ne 15, 3, 0, 0, []), (48, 0, .iload_n 2, 1, 0, 0, []), (49, 0, .ldc 190, 2, 65522, 0, [3073]), (51, 0, .if_icmp .eq 7, 3, 0, 0, []), (54, 0, .iconst 1, 1, 0, 0, []), (55, 0, .goto 4, 3, 0, 0, []), (58, 0, .iconst 0, 1, 0, 0, []), (59, 0, .ireturn, 1, 1, 0, []), (60, 0, .iload_n 2, 1, 0, 0, []), (61, 0, .ifCond .eq 25, 3, 0, 0, []), (64, 0, .iload_n 2, 1, 0, 0, []), (65, 0, .ldc 189, 2, 65521, 0, [3072]), (67, 0, .if_icmp .eq 19, 3, 0, 0, []), (70, 0, .iload_n 2, 1, 0, 0, []), (71, 0, .ldc 190, 2, 65522, 0, [3073]), (73, 0, .if_icmp .eq 13, 3, 0, 0, []), (76, 0, .aload_n 0, 1, 0, 0, []), (77, 0, .iload_n 2, 1, 0, 0, []), (78, 0, .invokevirtual 155, 3, 23, 7, [3058]), (81, 0, .ifCond .ne 5, 3, 0, 0, []), (84, 0, .iconst 0, 1, 0, 0, []), (85, 0, .ireturn, 1, 1, 0, []), (86, 3, .aload_n 0, 1, 0, 0, []), (87, 0, .iload_n 1, 1, 0, 0, []), (88, 0, .invokevirtual 191, 3, 12, 7, [3026]), (91, 0, .istore_n 3, 1, 0, 0, []), (92, 0, .iload_n 3, 1, 0, 0, []), (93, 0, .iconst 1, 1, 0, 0, []), (94, 0, .if_icmp .lt 9, 3, 0, 0, []), (97, 0, .iload_n 3, 1, 0, 0, []), (98, 0, .bipush 20, 2, 0, 0, []), (100, 0, .if_icmp .le 5, 3, 0, 0, []), (103, 0, .iconst 0, 1, 0, 0, []), (104, 0, .ireturn, 1, 1, 0, []), (105, 0, .iload_n 2, 1, 0, 0, []), (106, 0, .ldc 190, 2, 65522, 0, [3073]), (108, 0, .if_icmp .ne 39, 3, 0, 0, []), (111, 0, .aload_n 0, 1, 0, 0, []), (112, 0, .getfield 46, 3, 7, 19, [2, 0, 1104]), (115, 0, .iload_n 1, 1, 0, 0, []), (116, 0, .laload, 1, 0, 0, []), (117, 0, .invokestatic 158, 3, 145, 0, [5232]), (120, 0, .ifCond .eq 31, 3, 0, 0, []), (123, 0, .aload_n 0, 1, 0, 0, []), (124, 0, .getfield 49, 3, 7, 20, [2, 0, 1107]), (127, 0, .iload_n 1, 1, 0, 0, []), (128, 0, .laload, 1, 0, 0, []), (129, 0, .lconst 0, 1, 0, 0, []), (130, 0, .lcmp, 1, 0, 0, []), (131, 0, .ifCond .lt 20, 3, 0, 0, []), (134, 0, .aload_n 0, 1, 0, 0, []), (135, 0, .getfield 49, 3, 7, 20, [2, 0, 1107]), (138, 0, .iload_n 1, 1, 0, 0, []), (139, 0, .laload, 1, 0, 0, []), (140, 0, .ldc2_w 162, 3, 16384, 0, [5236]), (143, 0, .lcmp, 1, 0, 0, []), (144, 0, .ifCond .gt 7, 3, 0, 0, []), (147, 0, .iconst 1, 1, 0, 0, []), (148, 0, .goto 4, 3, 0, 0, []), (151, 0, .iconst 0, 1, 0, 0, []), (152, 0, .ireturn, 1, 1, 0, [])]
def m_Part_isSymbol : List aT := [(0, [(0, 2), (1, 0)], []), (39, [(0, 2), (1, 0), (2, 0)], []), (86, [(0, 2), (1, 0), (2, 0)], [])]
def B_Part_isSymbol_0 (X : Nat → List Int → AMem → Prop) (Q : Int → AMem → Prop) (x0 x1 : Int) (σ : AMem) : Prop :=
  (if ly_k x0 = 27 then (if ly_k (am_rd GR σ x0 17) = 1 then 0 ≤ x1 ∧ x1 < ly_l (am_rd GR σ x0 17) ∧ (if ly_k x0 = 27 then (if ly_k (am_rd GR σ x0 16) = 1 then 0 ≤ x1 ∧ x1 < ly_l (am_rd GR σ x0 16) ∧ (if 2 < (σ (am_rd GR σ x0 16) x1) then
  Q 0 σ
  else
  (if (σ (am_rd GR σ x0 17) x1) = 65521 then
    X 1 [x0, x1, (σ (am_rd GR σ x0 17) x1)] σ
    else
    (if (σ (am_rd GR σ x0 17) x1) = 65522 then
      X 1 [x0, x1, (σ (am_rd GR σ x0 17) x1)] σ
      else
      (if ly_k x0 = 27 then (if (σ (am_rd GR σ x0 17) x1) < (am_rd GR σ x0 3) then
        X 1 [x0, x1, (σ (am_rd GR σ x0 17) x1)] σ
        else
        Q 0 σ) else False)))) else False) else False) else False) else False)
def B_Part_isSymbol_1 (X : Nat → List Int → AMem → Prop) (Q : Int → AMem → Prop) (x0 x1 x2 : Int) (σ : AMem) : Prop :=
  (if ly_k x0 = 27 then (if ly_k (am_rd GR σ x0 16) = 1 then 0 ≤ x1 ∧ x1 < ly_l (am_rd GR σ x0 16) ∧ (if (σ (am_rd GR σ x0 16) x1) = 0 then
  (if x2 = 65522 then
    Q 0 σ
    else
    Q 1 σ)
  else
  (if x2 = 0 then
    X 2 [x0, x1, x2] σ
    else
    (if x2 = 65521 then
      X 2 [x0, x1, x2] σ
      else
      (if x2 = 65522 then
        X 2 [x0, x1, x2] σ
        else
        (if ly_k x0 = 27 then T_Part_isLoaded [x0, x2] σ (fun r1 σ2 => (if r1 = 0 then
          Q 0 σ2
          else
          X 2 [x0, x1, x2] σ2)) else False))))) else False) else False)
def B_Part_isSymbol_2 (X : Nat → List Int → AMem → Prop) (Q : Int → AMem → Prop) (x0 x1 x2 : Int) (σ : AMem) : Prop :=
  (if ly_k x0 = 27 then T_Part_letters [x0, x1] σ (fun r1 σ2 => (if r1 < 1 then
  Q 0 σ2
  else
  (if 20 < r1 then
    Q 0 σ2
    else
    (if x2 = 65522 then
      (if ly_k x0 = 27 then (if ly_k (am_rd GR σ2 x0 19) = 4 then 0 ≤ x1 ∧ x1 < ly_l (am_rd GR σ2 x0 19) ∧ T_Part_isPower [(σ2 (am_rd GR σ2 x0 19) x1)] σ2 (fun r3 σ4 => (if r3 = 0 then
        Q 0 σ4
        else
        (if ly_k x0 = 27 then (if ly_k (am_rd GR σ4 x0 20) = 4 then 0 ≤ x1 ∧ x1 < ly_l (am_rd GR σ4 x0 20) ∧ (if (σ4 (am_rd GR σ4 x0 20) x1) < 0 then
          Q 0 σ4
          else
          (if ly_k x0 = 27 then (if ly_k (am_rd GR σ4 x0 20) = 4 then 0 ≤ x1 ∧ x1 < ly_l (am_rd GR σ4 x0 20) ∧ (if 16384 < (σ4 (am_rd GR σ4 x0 20) x1) then
            Q 0 σ4
            else
            Q 1 σ4) else False) else False)) else False) else False))) else False) else False)
      else
      Q 1 σ2)))) else False)
def B_Part_isSymbol : (Nat → List Int → AMem → Prop) → (Int → AMem → Prop) → Nat → List Int → AMem → Prop := fun X Q j v σ => am_sel [(am_v2 (fun x0 x1 σ => B_Part_isSymbol_0 X Q x0 x1 σ)), (am_v3 (fun x0 x1 x2 σ => B_Part_isSymbol_1 X Q x0 x1 x2 σ)), (am_v3 (fun x0 x1 x2 σ => B_Part_isSymbol_2 X Q x0 x1 x2 σ))] j v σ
def T_Part_isSymbol : List Int → AMem → (Int → AMem → Prop) → Prop := am_T B_Part_isSymbol
abbrev y_Part_isSymbol : MethodName := ⟨"LinkHouse$Part", "isSymbol", "(I)Z"⟩
def a_Part_isSymbol : AC := (146, (y_Part_isSymbol, prog_6_method_12_code, 4, (Option.some Jvm.ClassFile.FieldType.boolean)), [2, 0], 0, false, { frames := 2, cells := 0, slots := 0, locals := 68 }, T_Part_isSymbol)
set_option maxRecDepth 100000 in
theorem ms_Part_isSymbol : am_MSp a_Part_isSymbol := am_ms_v 6005 8 6004 105000 7 rfl (by decide +kernel)
abbrev k_Part_isSymbol : List AC := [a_Part_isLoaded, a_Part_letters, a_Part_isPower]
set_option maxRecDepth 100000 in
theorem s_Part_isSymbol : (am_chkR { frames := 2, cells := 0, slots := 0, locals := 68 } k_Part_isSymbol && am_chkN c_Part_isSymbol { frames := 2, cells := 0, slots := 0, locals := 68 } && c_Part_isSymbol.all (am_chk "LinkHouse$Part" prog_6_method_12_code 4 (Option.some Jvm.ClassFile.FieldType.boolean) k_Part_isSymbol) && c_Part_isSymbol.all (am_chkL m_Part_isSymbol) && decide (m_Part_isSymbol[0]? = some (0, am_argp 0 [2, 0], [])) && decide (am_argn [2, 0] ≤ 4)) = true := by decide +kernel
set_option maxHeartbeats 150000 in
set_option maxRecDepth 100000 in
theorem h_Part_isSymbol : ∀ X Q j v σ, B_Part_isSymbol X Q j v σ → am_at GR k_Part_isSymbol c_Part_isSymbol m_Part_isSymbol X Q 93 j v σ := fun X Q => am_sel_all (P := fun j v σ => am_at GR k_Part_isSymbol c_Part_isSymbol m_Part_isSymbol X Q 93 j v σ) (⟨(am_v2_of (fun x0 x1 σ h => h)), ⟨(am_v3_of (fun x0 x1 x2 σ h => h)), ⟨(am_v3_of (fun x0 x1 x2 σ h => h)), trivial⟩⟩⟩)
set_option maxRecDepth 100000 in
theorem S_Part_isSymbol (l : Launch) (w : AW) : am_S l w GR a_Part_isSymbol := am_sound (rt := 0) (cal := k_Part_isSymbol) 146 y_Part_isSymbol prog_6_method_12_code 4 (Option.some Jvm.ClassFile.FieldType.boolean) [2, 0] false { frames := 2, cells := 0, slots := 0, locals := 68 } B_Part_isSymbol "LinkHouse$Part" c_Part_isSymbol m_Part_isSymbol 93 ms_Part_isSymbol (by decide +kernel) rfl rfl (am_cal (S_Part_isLoaded l w) (am_cal (S_Part_letters l w) (am_cal (S_Part_isPower l w) (fun _ h => absurd h List.not_mem_nil)))) s_Part_isSymbol h_Part_isSymbol
set_option maxRecDepth 100000 in
theorem of_Part_isSymbol {Q : Int → AMem → Prop} {x0 x1 : Int} {σ : AMem} (h : ∀ X : Nat → List Int → AMem → Prop, (∀ (x0 x1 : Int) (σ : AMem), B_Part_isSymbol_0 X Q x0 x1 σ → X 0 [x0, x1] σ) → (∀ (x0 x1 x2 : Int) (σ : AMem), B_Part_isSymbol_1 X Q x0 x1 x2 σ → X 1 [x0, x1, x2] σ) → (∀ (x0 x1 x2 : Int) (σ : AMem), B_Part_isSymbol_2 X Q x0 x1 x2 σ → X 2 [x0, x1, x2] σ) → X 0 [x0, x1] σ) : T_Part_isSymbol [x0, x1] σ Q := fun X hX => h X (fun x0 x1 σ h => hX 0 [x0, x1] σ h) (fun x0 x1 x2 σ h => hX 1 [x0, x1, x2] σ h) (fun x0 x1 x2 σ h => hX 2 [x0, x1, x2] σ h)
