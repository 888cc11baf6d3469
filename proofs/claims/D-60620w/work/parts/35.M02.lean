/-! methods: printed by gen/all.py -/
def c_Model_objectError : List aE := [(0, 1, .iload_n 2, 1, 0, 0, []), (1, 0, .bipush 64, 2, 0, 0, []), (3, 0, .if_icmp .lt 11, 3, 0, 0, []), (6, 0, .aload_n 0, 1, 0, 0, []), (7, 0, .iload_n 1, 1, 0, 0, []), (8, 0, .invokevirtual 441, 3, 184, 8, [8129]), (11, 0, .ifCond .ne 5, 3, 0, 0, []), (14, 0, .iconst 1, 1, 0, 0, []), (15, 0, .ireturn, 1, 0, 0, []), (16, 0, .aload_n 0, 1, 0, 0, []), (17, 0, .iload_n 1, 1, 0, 0, []), (18, 0, .invokevirtual 313, 3, 185, 8, [8136]), (21, 0, .istore_n 3, 1, 0, 0, []), (22, 0, .iload_n 3, 1, 0, 0, []), (23, 0, .iconst 1, 1, 0, 0, []), (24, 0, .if_icmp .lt 44, 3, 0, 0, []), (27, 0, .iload_n 3, 1, 0, 0, []), (28, 0, .bipush 24, 2, 0, 0, []), (30, 0, .if_icmp .gt 38, 3, 0, 0, []), (33, 0, .aload_n 0, 1, 0, 0, []), (34, 0, .iload_n 1, 1, 0, 0, []), (35, 0, .bipush 40, 2, 0, 0, []), (37, 0, .iadd, 1, 0, 0, []), (38, 0, .bipush 8, 2, 0, 0, []), (40, 0, .invokevirtual 291, 3, 183, 8, [8120]), (43, 0, .ldc2_w 341, 3, 64, 0, [8135]), (46, 0, .iload_n 3, 1, 0, 0, []), (47, 0, .i2l, 1, 0, 0, []), (48, 0, .lmul, 1, 0, 0, []), (49, 0, .iload_n 2, 1, 0, 0, []), (50, 0, .i2l, 1, 0, 0, []), (51, 0, .invokestatic 343, 3, 186, 0, [8140]), (54, 0, .ifCond .eq 14, 3, 0, 0, []), (57, 0, .aload_n 0, 1, 0, 0, []), (58, 0, .iload_n 1, 1, 0, 0, []), (59, 0, .iconst 0, 1, 0, 0, []), (60, 0, .invokevirtual 299, 3, 188, 8, [8143]), (63, 0, .lconst 0, 1, 0, 0, []), (64, 0, .lcmp, 1, 0, 0, []), (65, 0, .ifCond .eq 5, 3, 0, 0, []), (68, 0, .iconst 2, 1, 0, 0, []), (69, 0, .ireturn, 1, 0, 0, []), (70, 0, .iconst 0, 1, 0, 0, []), (71, 0, .istore 4, 2, 0, 0, []), (73, 2, .iload 4, 2, 0, 0, []), (75, 0, .iload_n 3, 1, 0, 0, []), (76, 0, .if_icmp .ge 27, 3, 0, 0, []), (79, 0, .aload_n 0, 1, 0, 0, []), (80, 0, .iload_n 1, 1, 0, 0, []), (81, 0, .iload_n 2, 1, 0, 0, []), (82, 0, .iload 4, 2, 0, 0, []), (84, 0, .invokevirtual 445, 3, 195, 8, [8151]), (87, 0, .istore 5, 2, 0, 0, []), (89, 0, .iload 5, 2, 0, 0, []), (91, 0, .ifCond .le 6, 3, 0, 0, []), (94, 0, .iload 5, 2, 0, 0, []), (96, 0, .ireturn, 1, 0, 0, []), (97, 0, .iinc 4 1, 3, 0, 0, []), (100, 0, .goto (-27), 3, 0, 0, []), (103, 0, .aload_n 0, 1, 0, 0, []), (104, 0, .iload_n 1, 1, 0, 0, []), (105, 0, .invokevirtual 448, 3, 206, 8, [8182]), (108, 0, .istore 4, 2, 0, 0, []), (110, 0, .iload 4, 2, 0, 0, []), (112, 0, .ifCond .le 8, 3, 0, 0, []), (115, 0, .iload 4, 2, 0, 0, []), (117, 0, .goto 8, 3, 0, 0, []), (120, 0, .aload_n 0, 1, 0, 0, []), (121, 0, .iload_n 1, 1, 0, 0, []), (122, 0, .invokevirtual 451, 3, 214, 8, [8231]), (125, 3, .istore 4, 2, 0, 0, []), (127, 0, .iload 4, 2, 0, 0, []), (129, 0, .ifCond .le 8, 3, 0, 0, []), (132, 0, .iload 4, 2, 0, 0, []), (134, 0, .goto 8, 3, 0, 0, []), (137, 0, .aload_n 0, 1, 0, 0, []), (138, 0, .iload_n 1, 1, 0, 0, []), (139, 0, .invokevirtual 454, 3, 218, 8, [9030]), (142, 0, .ireturn, 1, 0, 0, [])]
def m_Model_objectError : List aT := [(0, [(0, 2), (1, 0), (2, 0)], []), (73, [(0, 2), (1, 0), (2, 0), (3, 0), (4, 0)], []), (125, [(0, 2), (1, 0)], [0])]
def B_Model_objectError_0 (X : Nat → List Int → AMem → Prop) (Q : Int → AMem → Prop) (x1 x2 : Int) (σ : AMem) : Prop :=
  (if x2 < 64 then
  Q 1 σ
  else
  T_Model_isHeader [9790, x1] σ (fun r1 σ2 => (if r1 = 0 then
    Q 1 σ2
    else
    T_Model_sections [9790, x1] σ2 (fun r3 σ4 => (if r3 < 1 then
      Q 2 σ4
      else
      (if 24 < r3 then
        Q 2 σ4
        else
        am_r32 (x1 + 40) ∧ T_Model_num [9790, (x1 + 40), 8] σ4 (fun r5 σ6 => T_Model_lies [r5, (w64 (64 * r3)), x2] σ6 (fun r7 σ8 => (if r7 = 0 then
          Q 2 σ8
          else
          T_Model_type [9790, x1, 0] σ8 (fun r9 σ10 => (if r9 = 0 then
            X 1 [9790, x1, x2, r3, 0] σ10
            else
            Q 2 σ10)))))))))))
def B_Model_objectError_1 (X : Nat → List Int → AMem → Prop) (Q : Int → AMem → Prop) (x1 x2 x3 x4 : Int) (σ : AMem) : Prop :=
  (if x4 < x3 then
  T_Model_sectionError [9790, x1, x2, x4] σ (fun r5 σ6 => (if 0 < r5 then
    Q r5 σ6
    else
    am_r32 (x4 + 1) ∧ X 1 [9790, x1, x2, x3, (x4 + 1)] σ6))
  else
  T_Model_symbolsError [9790, x1] σ (fun r1 σ2 => (if 0 < r1 then
    X 2 [9790, x1, r1] σ2
    else
    T_Model_sitesError [9790, x1] σ2 (fun r3 σ4 => X 2 [9790, x1, r3] σ4))))
def B_Model_objectError_2 (X : Nat → List Int → AMem → Prop) (Q : Int → AMem → Prop) (x1 s0 : Int) (σ : AMem) : Prop :=
  (if 0 < s0 then
  Q s0 σ
  else
  T_Model_groupsError [9790, x1] σ (fun r1 σ2 => Q r1 σ2))
def B_Model_objectError : (Nat → List Int → AMem → Prop) → (Int → AMem → Prop) → Nat → List Int → AMem → Prop := fun X Q j v σ => am_sel [(am_v3 (fun t x1 x2 σ => if t = 9790 then B_Model_objectError_0 X Q x1 x2 σ else False)), (am_v5 (fun t x1 x2 x3 x4 σ => if t = 9790 then B_Model_objectError_1 X Q x1 x2 x3 x4 σ else False)), (am_v3 (fun t x1 s0 σ => if t = 9790 then B_Model_objectError_2 X Q x1 s0 σ else False))] j v σ
def T_Model_objectError : List Int → AMem → (Int → AMem → Prop) → Prop := am_T B_Model_objectError
abbrev y_Model_objectError : MethodName := ⟨"LinkHouseModel", "objectError", "(II)I"⟩
def a_Model_objectError : AC := (219, (y_Model_objectError, prog_10_method_44_code, 6, (Option.some Jvm.ClassFile.FieldType.int)), [2, 0, 0], 0, false, { frames := 8, cells := 0, slots := 0, locals := 256 }, T_Model_objectError)
set_option maxRecDepth 100000 in
theorem ms_Model_objectError : am_MSp a_Model_objectError := am_ms_v 8128 9 8127 105014 8 rfl (by decide +kernel)
abbrev k_Model_objectError : List AC := [a_Model_isHeader, a_Model_sections, a_Model_num, a_Model_lies, a_Model_type, a_Model_sectionError, a_Model_symbolsError, a_Model_sitesError, a_Model_groupsError]
set_option maxRecDepth 100000 in
theorem s_Model_objectError : (am_chkR { frames := 8, cells := 0, slots := 0, locals := 256 } k_Model_objectError && am_chkN c_Model_objectError { frames := 8, cells := 0, slots := 0, locals := 256 } && c_Model_objectError.all (am_chk "LinkHouseModel" prog_10_method_44_code 6 (Option.some Jvm.ClassFile.FieldType.int) k_Model_objectError) && c_Model_objectError.all (am_chkL m_Model_objectError) && decide (m_Model_objectError[0]? = some (0, am_argp 0 [2, 0, 0], [])) && decide (am_argn [2, 0, 0] ≤ 6)) = true := by decide +kernel
set_option maxHeartbeats 150000 in
set_option maxRecDepth 100000 in
theorem h_Model_objectError : ∀ X Q j v σ, B_Model_objectError X Q j v σ → am_at GR k_Model_objectError c_Model_objectError m_Model_objectError X Q 84 j v σ := fun X Q => am_sel_all (P := fun j v σ => am_at GR k_Model_objectError c_Model_objectError m_Model_objectError X Q 84 j v σ) (⟨(am_v3_of (fun t x1 x2 σ h => am_tk (fun e => by subst e; exact fun h => h) h)), ⟨(am_v5_of (fun t x1 x2 x3 x4 σ h => am_tk (fun e => by subst e; exact fun h => h) h)), ⟨(am_v3_of (fun t x1 s0 σ h => am_tk (fun e => by subst e; exact fun h => h) h)), trivial⟩⟩⟩)
set_option maxRecDepth 100000 in
theorem S_Model_objectError (l : Launch) (w : AW) : am_S l w GR a_Model_objectError := am_sound (rt := 0) (cal := k_Model_objectError) 219 y_Model_objectError prog_10_method_44_code 6 (Option.some Jvm.ClassFile.FieldType.int) [2, 0, 0] false { frames := 8, cells := 0, slots := 0, locals := 256 } B_Model_objectError "LinkHouseModel" c_Model_objectError m_Model_objectError 84 ms_Model_objectError (by decide +kernel) rfl rfl (am_cal (S_Model_isHeader l w) (am_cal (S_Model_sections l w) (am_cal (S_Model_num l w) (am_cal (S_Model_lies l w) (am_cal (S_Model_type l w) (am_cal (S_Model_sectionError l w) (am_cal (S_Model_symbolsError l w) (am_cal (S_Model_sitesError l w) (am_cal (S_Model_groupsError l w) (fun _ h => absurd h List.not_mem_nil)))))))))) s_Model_objectError h_Model_objectError
set_option maxRecDepth 100000 in
theorem of_Model_objectError {Q : Int → AMem → Prop} {x1 x2 : Int} {σ : AMem} (h : ∀ X : Nat → List Int → AMem → Prop, (∀ (x1 x2 : Int) (σ : AMem), B_Model_objectError_0 X Q x1 x2 σ → X 0 [9790, x1, x2] σ) → (∀ (x1 x2 x3 x4 : Int) (σ : AMem), B_Model_objectError_1 X Q x1 x2 x3 x4 σ → X 1 [9790, x1, x2, x3, x4] σ) → (∀ (x1 s0 : Int) (σ : AMem), B_Model_objectError_2 X Q x1 s0 σ → X 2 [9790, x1, s0] σ) → X 0 [9790, x1, x2] σ) : T_Model_objectError [9790, x1, x2] σ Q := fun X hX => h X (fun x1 x2 σ h => hX 0 [9790, x1, x2] σ h) (fun x1 x2 x3 x4 σ h => hX 1 [9790, x1, x2, x3, x4] σ h) (fun x1 s0 σ h => hX 2 [9790, x1, s0] σ h)
def c_Model_isMembers : List aE := [(0, 1, .bipush 8, 2, 0, 0, []), (2, 0, .istore_n 3, 1, 0, 0, []), (3, 2, .iload_n 3, 1, 0, 0, []), (4, 0, .iload_n 2, 1, 0, 0, []), (5, 0, .if_icmp .ge 323, 3, 0, 0, []), (8, 0, .aload_n 0, 1, 0, 0, []), (9, 0, .getfield 24, 3, 8, 8, [2, 0, 6197]), (12, 0, .iload_n 1, 1, 0, 0, []), (13, 0, .iaload, 1, 0, 0, []), (14, 0, .bipush 8, 2, 0, 0, []), (16, 0, .if_icmp .eq 11, 3, 0, 0, []), (19, 0, .iload_n 3, 1, 0, 0, []), (20, 0, .bipush 60, 2, 0, 0, []), (22, 0, .iadd, 1, 0, 0, []), (23, 0, .iload_n 2, 1, 0, 0, []), (24, 0, .if_icmp .le 5, 3, 0, 0, []), (27, 0, .iconst 0, 1, 0, 0, []), (28, 0, .ireturn, 1, 1, 0, []), (29, 0, .sipush 8192, 3, 0, 0, []), (32, 0, .iload_n 1, 1, 0, 0, []), (33, 0, .imul, 1, 0, 0, []), (34, 0, .iload_n 3, 1, 0, 0, []), (35, 0, .iadd, 1, 0, 0, []), (36, 0, .istore 4, 2, 0, 0, []), (38, 0, .aload_n 0, 1, 0, 0, []), (39, 0, .getfield 17, 3, 8, 6, [2, 0, 6195]), (42, 0, .iload 4, 2, 0, 0, []), (44, 0, .bipush 58, 2, 0, 0, []), (46, 0, .iadd, 1, 0, 0, []), (47, 0, .baload, 1, 2, 0, []), (48, 0, .bipush 96, 2, 0, 0, []), (50, 0, .if_icmp .ne 18, 3, 0, 0, []), (53, 0, .aload_n 0, 1, 0, 0, []), (54, 0, .getfield 17, 3, 8, 6, [2, 0, 6195]), (57, 0, .iload 4, 2, 0, 0, []), (59, 0, .bipush 59, 2, 0, 0, []), (61, 0, .iadd, 1, 0, 0, []), (62, 0, .baload, 1, 2, 0, []), (63, 0, .bipush 10, 2, 0, 0, []), (65, 0, .if_icmp .eq 5, 3, 0, 0, []), (68, 0, .iconst 0, 1, 0, 0, []), (69, 0, .ireturn, 1, 1, 0, []), (70, 0, .lconst 0, 1, 0, 0, []), (71, 0, .lstore 5, 2, 0, 0, []), (73, 0, .iconst 0, 1, 0, 0, []), (74, 0, .istore 7, 2, 0, 0, []), (76, 3, .iload 7, 2, 0, 0, []), (78, 0, .bipush 10, 2, 0, 0, []), (80, 0, .if_icmp .ge 72, 3, 0, 0, []), (83, 0, .aload_n 0, 1, 0, 0, []), (84, 0, .getfield 17, 3, 8, 6, [2, 0, 6195]), (87, 0, .iload 4, 2, 0, 0, []), (89, 0, .bipush 48, 2, 0, 0, []), (91, 0, .iadd, 1, 0, 0, []), (92, 0, .iload 7, 2, 0, 0, []), (94, 0, .iadd, 1, 0, 0, []), (95, 0, .baload, 1, 2, 0, []), (96, 0, .bipush 48, 2, 0, 0, []), (98, 0, .if_icmp .lt 54, 3, 0, 0, []), (101, 0, .aload_n 0, 1, 0, 0, []), (102, 0, .getfield 17, 3, 8, 6, [2, 0, 6195]), (105, 0, .iload 4, 2, 0, 0, []), (107, 0, .bipush 48, 2, 0, 0, []), (109, 0, .iadd, 1, 0, 0, []), (110, 0, .iload 7, 2, 0, 0, []), (112, 0, .iadd, 1, 0, 0, []), (113, 0, .baload, 1, 2, 0, []), (114, 0, .bipush 57, 2, 0, 0, []), (116, 0, .if_icmp .gt 36, 3, 0, 0, []), (119, 0, .ldc2_w 399, 3, 10, 0, [9020]), (122, 0, .lload 5, 2, 0, 0, []), (124, 0, .lmul, 1, 0, 0, []), (125, 0, .aload_n 0, 1, 0, 0, []), (126, 0, .getfield 17, 3, 8, 6, [2, 0, 6195]), (129, 0, .iload 4, 2, 0, 0, []), (131, 0, .bipush 48, 2, 0, 0, []), (133, 0, .iadd, 1, 0, 0, []), (134, 0, .iload 7, 2, 0, 0, []), (136, 0, .iadd, 1, 0, 0, []), (137, 0, .baload, 1, 2, 0, []), (138, 0, .i2l, 1, 0, 0, []), (139, 0, .ladd, 1, 0, 0, []), (140, 0, .ldc2_w 457, 3, 48, 0, [9051]), (143, 0, .lsub, 1, 0, 0, []), (144, 0, .lstore 5, 2, 0, 0, []), (146, 0, .iinc 7 1, 3, 0, 0, []), (149, 0, .goto (-73), 3, 0, 0, []), (152, 4, .iload 7, 2, 0, 0, []), (154, 0, .ifCond .ne 5, 3, 0, 0, []), (157, 0, .iconst 0, 1, 0, 0, []), (158, 0, .ireturn, 1, 1, 0, []), (159, 5, .iload 7, 2, 0, 0, []), (161, 0, .bipush 10, 2, 0, 0, []), (163, 0, .if_icmp .ge 29, 3, 0, 0, []), (166, 0, .aload_n 0, 1, 0, 0, []), (167, 0, .getfield 17, 3, 8, 6, [2, 0, 6195]), (170, 0, .iload 4, 2, 0, 0, []), (172, 0, .bipush 48, 2, 0, 0, []), (174, 0, .iadd, 1, 0, 0, []), (175, 0, .iload 7, 2, 0, 0, []), (177, 0, .iadd, 1, 0, 0, []), (178, 0, .baload, 1, 2, 0, []), (179, 0, .bipush 32, 2, 0, 0, []), (181, 0, .if_icmp .eq 5, 3, 0, 0, []), (184, 0, .iconst 0, 1, 0, 0, []), (185, 0, .ireturn, 1, 1, 0, []), (186, 0, .iinc 7 1, 3, 0, 0, []), (189, 0, .goto (-30), 3, 0, 0, []), (192, 0, .iinc 3 60, 3, 0, 0, []), (195, 0, .lload 5, 2, 0, 0, []), (197, 0, .iload_n 2, 1, 0, 0, []), (198, 0, .iload_n 3, 1, 0, 0, []), (199, 0, .isub, 1, 0, 0, []), (200, 0, .i2l, 1, 0, 0, []), (201, 0, .lcmp, 1, 0, 0, []), (202, 0, .ifCond .le 5, 3, 0, 0, []), (205, 0, .iconst 0, 1, 0, 0, []), (206, 0, .ireturn, 1, 1, 0, []), (207, 0, .bipush 8, 2, 0, 0, []), (209, 0, .iload_n 1, 1, 0, 0, []), (210, 0, .imul, 1, 0, 0, []), (211, 0, .aload_n 0, 1, 0, 0, []), (212, 0, .getfield 24, 3, 8, 8, [2, 0, 6197]), (215, 0, .iload_n 1, 1, 0, 0, []), (216, 0, .iaload, 1, 0, 0, []), (217, 0, .iadd, 1, 0, 0, []), (218, 0, .istore 8, 2, 0, 0, []), (220, 0, .aload_n 0, 1, 0, 0, []), (221, 0, .getfield 27, 3, 8, 9, [2, 0, 6198]), (224, 0, .iload 8, 2, 0, 0, []), (226, 0, .sipush 8192, 3, 0, 0, []), (229, 0, .iload_n 1, 1, 0, 0, []), (230, 0, .imul, 1, 0, 0, []), (231, 0, .iload_n 3, 1, 0, 0, []), (232, 0, .iadd, 1, 0, 0, []), (233, 0, .iastore, 1, 0, 0, []), (234, 0, .aload_n 0, 1, 0, 0, []), (235, 0, .getfield 30, 3, 8, 10, [2, 0, 6199]), (238, 0, .iload 8, 2, 0, 0, []), (240, 0, .lload 5, 2, 0, 0, []), (242, 0, .l2i, 1, 0, 0, []), (243, 0, .iastore, 1, 0, 0, []), (244, 0, .aload_n 0, 1, 0, 0, []), (245, 0, .getfield 37, 3, 8, 12, [2, 0, 6201]), (248, 0, .iload 8, 2, 0, 0, []), (250, 0, .aload_n 0, 1, 0, 0, []), (251, 0, .getfield 17, 3, 8, 6, [2, 0, 6195]), (254, 0, .iload 4, 2, 0, 0, []), (256, 0, .baload, 1, 2, 0, []), (257, 0, .bipush 47, 2, 0, 0, []), (259, 0, .if_icmp .ne 7, 3, 0, 0, []), (262, 0, .iconst 1, 1, 0, 0, []), (263, 0, .goto 4, 3, 0, 0, []), (266, 0, .iconst 0, 1, 0, 0, []), (267, 6, .bastore, 1, 3, 0, []), (268, 0, .aload_n 0, 1, 0, 0, []), (269, 0, .getfield 24, 3, 8, 8, [2, 0, 6197]), (272, 0, .iload_n 1, 1, 0, 0, []), (273, 0, .dup2, 1, 0, 0, []), (274, 0, .iaload, 1, 0, 0, []), (275, 0, .iconst 1, 1, 0, 0, []), (276, 0, .iadd, 1, 0, 0, []), (277, 0, .iastore, 1, 0, 0, []), (278, 0, .iload_n 3, 1, 0, 0, []), (279, 0, .lload 5, 2, 0, 0, []), (281, 0, .l2i, 1, 0, 0, []), (282, 0, .iadd, 1, 0, 0, []), (283, 0, .istore_n 3, 1, 0, 0, []), (284, 0, .lload 5, 2, 0, 0, []), (286, 0, .ldc2_w 307, 3, 2, 0, [8172]), (289, 0, .lrem, 1, 0, 0, []), (290, 0, .lconst 0, 1, 0, 0, []), (291, 0, .lcmp, 1, 0, 0, []), (292, 0, .ifCond .ne 6, 3, 0, 0, []), (295, 0, .goto (-292), 3, 0, 0, []), (298, 0, .iload_n 3, 1, 0, 0, []), (299, 0, .iload_n 2, 1, 0, 0, []), (300, 0, .if_icmp .ge 20, 3, 0, 0, []), (303, 0, .aload_n 0, 1, 0, 0, []), (304, 0, .getfield 17, 3, 8, 6, [2, 0, 6195]), (307, 0, .sipush 8192, 3, 0, 0, []), (310, 0, .iload_n 1, 1, 0, 0, []), (311, 0, .imul, 1, 0, 0, []), (312, 0, .iload_n 3, 1, 0, 0, []), (313, 0, .iadd, 1, 0, 0, []), (314, 0, .baload, 1, 2, 0, []), (315, 0, .bipush 10, 2, 0, 0, []), (317, 0, .if_icmp .eq 5, 3, 0, 0, []), (320, 0, .iconst 0, 1, 0, 0, []), (321, 0, .ireturn, 1, 1, 0, []), (322, 0, .iinc 3 1, 3, 0, 0, []), (325, 0, .goto (-322), 3, 0, 0, []), (328, 0, .iconst 1, 1, 0, 0, []), (329, 0, .ireturn, 1, 1, 0, [])]
def m_Model_isMembers : List aT := [(0, [(0, 2), (1, 0), (2, 0)], []), (3, [(0, 2), (1, 0), (2, 0), (3, 0)], []), (76, [(0, 2), (1, 0), (2, 0), (3, 0), (4, 0), (5, 1), (7, 0)], []), (152, [(0, 2), (1, 0), (2, 0), (3, 0), (4, 0), (5, 1), (7, 0)], []), (159, [(0, 2), (1, 0), (2, 0), (3, 0), (4, 0), (5, 1), (7, 0)], []), (267, [(0, 2), (1, 0), (2, 0), (3, 0), (5, 1)], [0, 0, 2])]
def B_Model_isMembers_0 (X : Nat → List Int → AMem → Prop) (Q : Int → AMem → Prop) (x1 x2 : Int) (σ : AMem) : Prop :=
  X 1 [9790, x1, x2, 8] σ
def B_Model_isMembers_1 (X : Nat → List Int → AMem → Prop) (Q : Int → AMem → Prop) (x1 x2 x3 : Int) (σ : AMem) : Prop :=
  (if x3 < x2 then
  0 ≤ x1 ∧ x1 < 8 ∧ (if (σ 9795 x1) = 8 then
    Q 0 σ
    else
    am_r32 (x3 + 60) ∧ (if x2 < (x3 + 60) then
      Q 0 σ
      else
      am_r32 (8192 * x1) ∧ am_r32 ((8192 * x1) + x3) ∧ am_r32 (((8192 * x1) + x3) + 58) ∧ 0 ≤ (((8192 * x1) + x3) + 58) ∧ (((8192 * x1) + x3) + 58) < 65536 ∧ (if (σ 9793 (((8192 * x1) + x3) + 58)) = 96 then
        am_r32 (((8192 * x1) + x3) + 59) ∧ 0 ≤ (((8192 * x1) + x3) + 59) ∧ (((8192 * x1) + x3) + 59) < 65536 ∧ (if (σ 9793 (((8192 * x1) + x3) + 59)) = 10 then
          X 2 [9790, x1, x2, x3, ((8192 * x1) + x3), 0, 0] σ
          else
          Q 0 σ)
        else
        Q 0 σ)))
  else
  Q 1 σ)
def B_Model_isMembers_2 (X : Nat → List Int → AMem → Prop) (Q : Int → AMem → Prop) (x1 x2 x3 x4 x5 x7 : Int) (σ : AMem) : Prop :=
  (if x7 < 10 then
  am_r32 (x4 + 48) ∧ am_r32 ((x4 + 48) + x7) ∧ 0 ≤ ((x4 + 48) + x7) ∧ ((x4 + 48) + x7) < 65536 ∧ (if (σ 9793 ((x4 + 48) + x7)) < 48 then
    X 3 [9790, x1, x2, x3, x4, x5, x7] σ
    else
    am_r32 (x4 + 48) ∧ am_r32 ((x4 + 48) + x7) ∧ 0 ≤ ((x4 + 48) + x7) ∧ ((x4 + 48) + x7) < 65536 ∧ (if 57 < (σ 9793 ((x4 + 48) + x7)) then
      X 3 [9790, x1, x2, x3, x4, x5, x7] σ
      else
      am_r32 (x4 + 48) ∧ am_r32 ((x4 + 48) + x7) ∧ 0 ≤ ((x4 + 48) + x7) ∧ ((x4 + 48) + x7) < 65536 ∧ am_let (w64 ((w64 ((w64 (10 * x5)) + (σ 9793 ((x4 + 48) + x7)))) - 48)) (fun y1 => am_r32 (x7 + 1) ∧ X 2 [9790, x1, x2, x3, x4, y1, (x7 + 1)] σ)))
  else
  X 3 [9790, x1, x2, x3, x4, x5, x7] σ)
def B_Model_isMembers_3 (X : Nat → List Int → AMem → Prop) (Q : Int → AMem → Prop) (x1 x2 x3 x4 x5 x7 : Int) (σ : AMem) : Prop :=
  (if x7 = 0 then
  Q 0 σ
  else
  X 4 [9790, x1, x2, x3, x4, x5, x7] σ)
def B_Model_isMembers_4 (X : Nat → List Int → AMem → Prop) (Q : Int → AMem → Prop) (x1 x2 x3 x4 x5 x7 : Int) (σ : AMem) : Prop :=
  (if x7 < 10 then
  am_r32 (x4 + 48) ∧ am_r32 ((x4 + 48) + x7) ∧ 0 ≤ ((x4 + 48) + x7) ∧ ((x4 + 48) + x7) < 65536 ∧ (if (σ 9793 ((x4 + 48) + x7)) = 32 then
    am_r32 (x7 + 1) ∧ X 4 [9790, x1, x2, x3, x4, x5, (x7 + 1)] σ
    else
    Q 0 σ)
  else
  am_r32 (x3 + 60) ∧ am_r32 (x2 - (x3 + 60)) ∧ (if (x2 - (x3 + 60)) < x5 then
    Q 0 σ
    else
    am_r32 (8 * x1) ∧ 0 ≤ x1 ∧ x1 < 8 ∧ am_r32 ((8 * x1) + (σ 9795 x1)) ∧ am_r32 (8192 * x1) ∧ am_r32 ((8192 * x1) + (x3 + 60)) ∧ 0 ≤ ((8 * x1) + (σ 9795 x1)) ∧ ((8 * x1) + (σ 9795 x1)) < 64 ∧ am_let (am_upd σ 9796 ((8 * x1) + (σ 9795 x1)) ((8192 * x1) + (x3 + 60))) (fun σ1 => 0 ≤ ((8 * x1) + (σ 9795 x1)) ∧ ((8 * x1) + (σ 9795 x1)) < 64 ∧ am_let (am_upd σ1 9797 ((8 * x1) + (σ 9795 x1)) (w32 x5)) (fun σ2 => 0 ≤ x4 ∧ x4 < 65536 ∧ (if (σ2 9793 x4) = 47 then
      X 5 [9790, x1, x2, (x3 + 60), x5, 1, ((8 * x1) + (σ 9795 x1)), 9799] σ2
      else
      X 5 [9790, x1, x2, (x3 + 60), x5, 0, ((8 * x1) + (σ 9795 x1)), 9799] σ2)))))
def B_Model_isMembers_5 (X : Nat → List Int → AMem → Prop) (Q : Int → AMem → Prop) (x1 x2 x3 x5 s0 s1 s2 : Int) (σ : AMem) : Prop :=
  (if ly_k s2 = 3 then (if s0 = 0 ∨ s0 = 1 then 0 ≤ s1 ∧ s1 < ly_l s2 ∧ am_let (am_upd σ s2 s1 s0) (fun σ1 => 0 ≤ x1 ∧ x1 < 8 ∧ am_r32 ((σ1 9795 x1) + 1) ∧ 0 ≤ x1 ∧ x1 < 8 ∧ am_let (am_upd σ1 9795 x1 ((σ1 9795 x1) + 1)) (fun σ2 => am_r32 (x3 + (w32 x5)) ∧ (0 : Int) < 2 ∧ (if (x5.tmod 2) = 0 then
  X 1 [9790, x1, x2, (x3 + (w32 x5))] σ2
  else
  (if (x3 + (w32 x5)) < x2 then
    am_r32 (8192 * x1) ∧ am_r32 ((8192 * x1) + (x3 + (w32 x5))) ∧ 0 ≤ ((8192 * x1) + (x3 + (w32 x5))) ∧ ((8192 * x1) + (x3 + (w32 x5))) < 65536 ∧ (if (σ2 9793 ((8192 * x1) + (x3 + (w32 x5)))) = 10 then
      am_r32 ((x3 + (w32 x5)) + 1) ∧ X 1 [9790, x1, x2, ((x3 + (w32 x5)) + 1)] σ2
      else
      Q 0 σ2)
    else
    Q 0 σ2)))) else False) else False)
def B_Model_isMembers : (Nat → List Int → AMem → Prop) → (Int → AMem → Prop) → Nat → List Int → AMem → Prop := fun X Q j v σ => am_sel [(am_v3 (fun t x1 x2 σ => if t = 9790 then B_Model_isMembers_0 X Q x1 x2 σ else False)), (am_v4 (fun t x1 x2 x3 σ => if t = 9790 then B_Model_isMembers_1 X Q x1 x2 x3 σ else False)), (am_v7 (fun t x1 x2 x3 x4 x5 x7 σ => if t = 9790 then B_Model_isMembers_2 X Q x1 x2 x3 x4 x5 x7 σ else False)), (am_v7 (fun t x1 x2 x3 x4 x5 x7 σ => if t = 9790 then B_Model_isMembers_3 X Q x1 x2 x3 x4 x5 x7 σ else False)), (am_v7 (fun t x1 x2 x3 x4 x5 x7 σ => if t = 9790 then B_Model_isMembers_4 X Q x1 x2 x3 x4 x5 x7 σ else False)), (am_v8 (fun t x1 x2 x3 x5 s0 s1 s2 σ => if t = 9790 then B_Model_isMembers_5 X Q x1 x2 x3 x5 s0 s1 s2 σ else False))] j v σ
def T_Model_isMembers : List Int → AMem → (Int → AMem → Prop) → Prop := am_T B_Model_isMembers
abbrev y_Model_isMembers : MethodName := ⟨"LinkHouseModel", "isMembers", "(II)Z"⟩
def a_Model_isMembers : AC := (220, (y_Model_isMembers, prog_10_method_45_code, 9, (Option.some Jvm.ClassFile.FieldType.boolean)), [2, 0, 0], 0, false, { frames := 0, cells := 0, slots := 0, locals := 0 }, T_Model_isMembers)
set_option maxRecDepth 100000 in
theorem ms_Model_isMembers : am_MSp a_Model_isMembers := am_ms_v 9050 9 9049 107014 8 rfl (by decide +kernel)
abbrev k_Model_isMembers : List AC := []
set_option maxRecDepth 100000 in
theorem s_Model_isMembers : (am_chkR { frames := 0, cells := 0, slots := 0, locals := 0 } k_Model_isMembers && am_chkN c_Model_isMembers { frames := 0, cells := 0, slots := 0, locals := 0 } && c_Model_isMembers.all (am_chk "LinkHouseModel" prog_10_method_45_code 9 (Option.some Jvm.ClassFile.FieldType.boolean) k_Model_isMembers) && c_Model_isMembers.all (am_chkL m_Model_isMembers) && decide (m_Model_isMembers[0]? = some (0, am_argp 0 [2, 0, 0], [])) && decide (am_argn [2, 0, 0] ≤ 9)) = true := by decide +kernel
set_option maxHeartbeats 150000 in
set_option maxRecDepth 100000 in
theorem h_Model_isMembers : ∀ X Q j v σ, B_Model_isMembers X Q j v σ → am_at GR k_Model_isMembers c_Model_isMembers m_Model_isMembers X Q 199 j v σ := fun X Q => am_sel_all (P := fun j v σ => am_at GR k_Model_isMembers c_Model_isMembers m_Model_isMembers X Q 199 j v σ) (⟨(am_v3_of (fun t x1 x2 σ h => am_tk (fun e => by subst e; exact fun h => h) h)), ⟨(am_v4_of (fun t x1 x2 x3 σ h => am_tk (fun e => by subst e; exact fun h => h) h)), ⟨(am_v7_of (fun t x1 x2 x3 x4 x5 x7 σ h => am_tk (fun e => by subst e; exact fun h => h) h)), ⟨(am_v7_of (fun t x1 x2 x3 x4 x5 x7 σ h => am_tk (fun e => by subst e; exact fun h => h) h)), ⟨(am_v7_of (fun t x1 x2 x3 x4 x5 x7 σ h => am_tk (fun e => by subst e; exact fun h => h) h)), ⟨(am_v8_of (fun t x1 x2 x3 x5 s0 s1 s2 σ h => am_tk (fun e => by subst e; exact fun h => h) h)), trivial⟩⟩⟩⟩⟩⟩)
set_option maxRecDepth 100000 in
theorem S_Model_isMembers (l : Launch) (w : AW) : am_S l w GR a_Model_isMembers := am_sound (rt := 0) (cal := k_Model_isMembers) 220 y_Model_isMembers prog_10_method_45_code 9 (Option.some Jvm.ClassFile.FieldType.boolean) [2, 0, 0] false { frames := 0, cells := 0, slots := 0, locals := 0 } B_Model_isMembers "LinkHouseModel" c_Model_isMembers m_Model_isMembers 199 ms_Model_isMembers (by decide +kernel) rfl rfl (fun _ h => absurd h List.not_mem_nil) s_Model_isMembers h_Model_isMembers
set_option maxRecDepth 100000 in
theorem of_Model_isMembers {Q : Int → AMem → Prop} {x1 x2 : Int} {σ : AMem} (h : ∀ X : Nat → List Int → AMem → Prop, (∀ (x1 x2 : Int) (σ : AMem), B_Model_isMembers_0 X Q x1 x2 σ → X 0 [9790, x1, x2] σ) → (∀ (x1 x2 x3 : Int) (σ : AMem), B_Model_isMembers_1 X Q x1 x2 x3 σ → X 1 [9790, x1, x2, x3] σ) → (∀ (x1 x2 x3 x4 x5 x7 : Int) (σ : AMem), B_Model_isMembers_2 X Q x1 x2 x3 x4 x5 x7 σ → X 2 [9790, x1, x2, x3, x4, x5, x7] σ) → (∀ (x1 x2 x3 x4 x5 x7 : Int) (σ : AMem), B_Model_isMembers_3 X Q x1 x2 x3 x4 x5 x7 σ → X 3 [9790, x1, x2, x3, x4, x5, x7] σ) → (∀ (x1 x2 x3 x4 x5 x7 : Int) (σ : AMem), B_Model_isMembers_4 X Q x1 x2 x3 x4 x5 x7 σ → X 4 [9790, x1, x2, x3, x4, x5, x7] σ) → (∀ (x1 x2 x3 x5 s0 s1 s2 : Int) (σ : AMem), B_Model_isMembers_5 X Q x1 x2 x3 x5 s0 s1 s2 σ → X 5 [9790, x1, x2, x3, x5, s0, s1, s2] σ) → X 0 [9790, x1, x2] σ) : T_Model_isMembers [9790, x1, x2] σ Q := fun X hX => h X (fun x1 x2 σ h => hX 0 [9790, x1, x2] σ h) (fun x1 x2 x3 σ h => hX 1 [9790, x1, x2, x3] σ h) (fun x1 x2 x3 x4 x5 x7 σ h => hX 2 [9790, x1, x2, x3, x4, x5, x7] σ h) (fun x1 x2 x3 x4 x5 x7 σ h => hX 3 [9790, x1, x2, x3, x4, x5, x7] σ h) (fun x1 x2 x3 x4 x5 x7 σ h => hX 4 [9790, x1, x2, x3, x4, x5, x7] σ h) (fun x1 x2 x3 x5 s0 s1 s2 σ h => hX 5 [9790, x1, x2, x3, x5, s0, s1, s2] σ h)
def c_Model_fileError : List aE := [(0, 1, .aload_n 0, 1, 0, 0, []), (1, 0, .getfield 24, 3, 8, 8, [2, 0, 6197]), (4, 0, .iload_n 1, 1, 0, 0, []), (5, 0, .iconst 0, 1, 0, 0, []), (6, 0, .iastore, 1, 0, 0, []), (7, 0, .aload_n 0, 1, 0, 0, []), (8, 0, .getfield 33, 3, 8, 11, [2, 0, 6200]), (11, 0, .iload_n 1, 1, 0, 0, []), (12, 0, .iload_n 2, 1, 0, 0, []), (13, 0, .bipush 7, 2, 0, 0, []), (15, 0, .if_icmp .le 25, 3, 0, 0, []), (18, 0, .aload_n 0, 1, 0, 0, []), (19, 0, .sipush 8192, 3, 0, 0, []), (22, 0, .iload_n 1, 1, 0, 0, []), (23, 0, .imul, 1, 0, 0, []), (24, 0, .bipush 8, 2, 0, 0, []), (26, 0, .invokevirtual 291, 3, 183, 8, [8120]), (29, 0, .ldc2_w 459, 3, 738142165265366049, 0, [8124]), (32, 0, .lcmp, 1, 0, 0, []), (33, 0, .ifCond .ne 7, 3, 0, 0, []), (36, 0, .iconst 1, 1, 0, 0, []), (37, 0, .goto 4, 3, 0, 0, []), (40, 2, .iconst 0, 1, 0, 0, []), (41, 3, .bastore, 1, 3, 0, []), (42, 0, .aload_n 0, 1, 0, 0, []), (43, 0, .getfield 33, 3, 8, 11, [2, 0, 6200]), (46, 0, .iload_n 1, 1, 0, 0, []), (47, 0, .baload, 1, 3, 0, []), (48, 0, .ifCond .ne 55, 3, 0, 0, []), (51, 0, .aload_n 0, 1, 0, 0, []), (52, 0, .getfield 24, 3, 8, 8, [2, 0, 6197]), (55, 0, .iload_n 1, 1, 0, 0, []), (56, 0, .iconst 1, 1, 0, 0, []), (57, 0, .iastore, 1, 0, 0, []), (58, 0, .aload_n 0, 1, 0, 0, []), (59, 0, .getfield 27, 3, 8, 9, [2, 0, 6198]), (62, 0, .bipush 8, 2, 0, 0, []), (64, 0, .iload_n 1, 1, 0, 0, []), (65, 0, .imul, 1, 0, 0, []), (66, 0, .sipush 8192, 3, 0, 0, []), (69, 0, .iload_n 1, 1, 0, 0, []), (70, 0, .imul, 1, 0, 0, []), (71, 0, .iastore, 1, 0, 0, []), (72, 0, .aload_n 0, 1, 0, 0, []), (73, 0, .getfield 30, 3, 8, 10, [2, 0, 6199]), (76, 0, .bipush 8, 2, 0, 0, []), (78, 0, .iload_n 1, 1, 0, 0, []), (79, 0, .imul, 1, 0, 0, []), (80, 0, .iload_n 2, 1, 0, 0, []), (81, 0, .iastore, 1, 0, 0, []), (82, 0, .aload_n 0, 1, 0, 0, []), (83, 0, .getfield 37, 3, 8, 12, [2, 0, 6201]), (86, 0, .bipush 8, 2, 0, 0, []), (88, 0, .iload_n 1, 1, 0, 0, []), (89, 0, .imul, 1, 0, 0, []), (90, 0, .iconst 0, 1, 0, 0, []), (91, 0, .bastore, 1, 3, 0, []), (92, 0, .aload_n 0, 1, 0, 0, []), (93, 0, .sipush 8192, 3, 0, 0, []), (96, 0, .iload_n 1, 1, 0, 0, []), (97, 0, .imul, 1, 0, 0, []), (98, 0, .iload_n 2, 1, 0, 0, []), (99, 0, .invokevirtual 461, 3, 219, 8, [8125]), (102, 0, .ireturn, 1, 0, 0, []), (103, 0, .aload_n 0, 1, 0, 0, []), (104, 0, .iload_n 1, 1, 0, 0, []), (105, 0, .iload_n 2, 1, 0, 0, []), (106, 0, .invokevirtual 464, 3, 220, 8, [9047]), (109, 0, .ifCond .ne 6, 3, 0, 0, []), (112, 0, .bipush 8, 2, 0, 0, []), (114, 0, .ireturn, 1, 0, 0, []), (115, 0, .iconst 0, 1, 0, 0, []), (116, 0, .istore_n 3, 1, 0, 0, []), (117, 0, .iconst 0, 1, 0, 0, []), (118, 0, .istore 4, 2, 0, 0, []), (120, 4, .iload 4, 2, 0, 0, []), (122, 0, .aload_n 0, 1, 0, 0, []), (123, 0, .getfield 24, 3, 8, 8, [2, 0, 6197]), (126, 0, .iload_n 1, 1, 0, 0, []), (127, 0, .iaload, 1, 0, 0, []), (128, 0, .if_icmp .ge 51, 3, 0, 0, []), (131, 0, .iload_n 3, 1, 0, 0, []), (132, 0, .ifCond .ne 47, 3, 0, 0, []), (135, 0, .bipush 8, 2, 0, 0, []), (137, 0, .iload_n 1, 1, 0, 0, []), (138, 0, .imul, 1, 0, 0, []), (139, 0, .iload 4, 2, 0, 0, []), (141, 0, .iadd, 1, 0, 0, []), (142, 0, .istore 5, 2, 0, 0, []), (144, 0, .aload_n 0, 1, 0, 0, []), (145, 0, .getfield 37, 3, 8, 12, [2, 0, 6201]), (148, 0, .iload 5, 2, 0, 0, []), (150, 0, .baload, 1, 3, 0, []), (151, 0, .ifCond .ne 22, 3, 0, 0, []), (154, 0, .aload_n 0, 1, 0, 0, []), (155, 0, .aload_n 0, 1, 0, 0, []), (156, 0, .getfield 27, 3, 8, 9, [2, 0, 6198]), (159, 0, .iload 5, 2, 0, 0, []), (161, 0, .iaload, 1, 0, 0, []), (162, 0, .aload_n 0, 1, 0, 0, []), (163, 0, .getfield 30, 3, 8, 10, [2, 0, 6199]), (166, 0, .iload 5, 2, 0, 0, []), (168, 0, .iaload, 1, 0, 0, []), (169, 0, .invokevirtual 461, 3, 219, 8, [8125]), (172, 0, .istore_n 3, 1, 0, 0, []), (173, 5, .iinc 4 1, 3, 0, 0, []), (176, 0, .goto (-56), 3, 0, 0, []), (179, 0, .iload_n 3, 1, 0, 0, []), (180, 0, .ireturn, 1, 0, 0, [])]
def m_Model_fileError : List aT := [(0, [(0, 2), (1, 0), (2, 0)], []), (40, [(0, 2), (1, 0), (2, 0)], [0, 2]), (41, [(0, 2), (1, 0), (2, 0)], [0, 0, 2]), (120, [(0, 2), (1, 0), (3, 0), (4, 0)], []), (173, [(0, 2), (1, 0), (3, 0), (4, 0)], [])]
def B_Model_fileError_0 (X : Nat → List Int → AMem → Prop) (Q : Int → AMem → Prop) (x1 x2 : Int) (σ : AMem) : Prop :=
  0 ≤ x1 ∧ x1 < 8 ∧ am_let (am_upd σ 9795 x1 0) (fun σ1 => (if 7 < x2 then
  am_r32 (8192 * x1) ∧ T_Model_num [9790, (8192 * x1), 8] σ1 (fun r2 σ3 => (if r2 = 738142165265366049 then
    X 2 [9790, x1, x2, 1, x1, 9798] σ3
    else
    X 1 [9790, x1, x2, x1, 9798] σ3))
  else
  X 1 [9790, x1, x2, x1, 9798] σ1))
def B_Model_fileError_1 (X : Nat → List Int → AMem → Prop) (Q : Int → AMem → Prop) (x1 x2 s0 s1 : Int) (σ : AMem) : Prop :=
  X 2 [9790, x1, x2, 0, s0, s1] σ
def B_Model_fileError_2 (X : Nat → List Int → AMem → Prop) (Q : Int → AMem → Prop) (x1 x2 s0 s1 s2 : Int) (σ : AMem) : Prop :=
  (if ly_k s2 = 3 then (if s0 = 0 ∨ s0 = 1 then 0 ≤ s1 ∧ s1 < ly_l s2 ∧ am_let (am_upd σ s2 s1 s0) (fun σ1 => 0 ≤ x1 ∧ x1 < 8 ∧ (if (σ1 9798 x1) = 0 then
  0 ≤ x1 ∧ x1 < 8 ∧ am_let (am_upd σ1 9795 x1 1) (fun σ4 => am_r32 (8 * x1) ∧ am_r32 (8192 * x1) ∧ 0 ≤ (8 * x1) ∧ (8 * x1) < 64 ∧ am_let (am_upd σ4 9796 (8 * x1) (8192 * x1)) (fun σ5 => am_r32 (8 * x1) ∧ 0 ≤ (8 * x1) ∧ (8 * x1) < 64 ∧ am_let (am_upd σ5 9797 (8 * x1) x2) (fun σ6 => am_r32 (8 * x1) ∧ 0 ≤ (8 * x1) ∧ (8 * x1) < 64 ∧ am_let (am_upd σ6 9799 (8 * x1) 0) (fun σ7 => am_r32 (8192 * x1) ∧ T_Model_objectError [9790, (8192 * x1), x2] σ7 (fun r8 σ9 => Q r8 σ9)))))
  else
  T_Model_isMembers [9790, x1, x2] σ1 (fun r2 σ3 => (if r2 = 0 then
    Q 8 σ3
    else
    X 3 [9790, x1, 0, 0] σ3)))) else False) else False)
def B_Model_fileError_3 (X : Nat → List Int → AMem → Prop) (Q : Int → AMem → Prop) (x1 x3 x4 : Int) (σ : AMem) : Prop :=
  0 ≤ x1 ∧ x1 < 8 ∧ (if x4 < (σ 9795 x1) then
  (if x3 = 0 then
    am_r32 (8 * x1) ∧ am_r32 ((8 * x1) + x4) ∧ 0 ≤ ((8 * x1) + x4) ∧ ((8 * x1) + x4) < 64 ∧ (if (σ 9799 ((8 * x1) + x4)) = 0 then
      0 ≤ ((8 * x1) + x4) ∧ ((8 * x1) + x4) < 64 ∧ 0 ≤ ((8 * x1) + x4) ∧ ((8 * x1) + x4) < 64 ∧ T_Model_objectError [9790, (σ 9796 ((8 * x1) + x4)), (σ 9797 ((8 * x1) + x4))] σ (fun r1 σ2 => X 4 [9790, x1, r1, x4] σ2)
      else
      X 4 [9790, x1, x3, x4] σ)
    else
    Q x3 σ)
  else
  Q x3 σ)
def B_Model_fileError_4 (X : Nat → List Int → AMem → Prop) (Q : Int → AMem → Prop) (x1 x3 x4 : Int) (σ : AMem) : Prop :=
  am_r32 (x4 + 1) ∧ X 3 [9790, x1, x3, (x4 + 1)] σ
def B_Model_fileError : (Nat → List Int → AMem → Prop) → (Int → AMem → Prop) → Nat → List Int → AMem → Prop := fun X Q j v σ => am_sel [(am_v3 (fun t x1 x2 σ => if t = 9790 then B_Model_fileError_0 X Q x1 x2 σ else False)), (am_v5 (fun t x1 x2 s0 s1 σ => if t = 9790 then B_Model_fileError_1 X Q x1 x2 s0 s1 σ else False)), (am_v6 (fun t x1 x2 s0 s1 s2 σ => if t = 9790 then B_Model_fileError_2 X Q x1 x2 s0 s1 s2 σ else False)), (am_v4 (fun t x1 x3 x4 σ => if t = 9790 then B_Model_fileError_3 X Q x1 x3 x4 σ else False)), (am_v4 (fun t x1 x3 x4 σ => if t = 9790 then B_Model_fileError_4 X Q x1 x3 x4 σ else False))] j v σ
def T_Model_fileError : List Int → AMem → (Int → AMem → Prop) → Prop := am_T B_Model_fileError
abbrev y_Model_fileError : MethodName := ⟨"LinkHouseModel", "fileError", "(II)I"⟩
def a_Model_fileError : AC := (221, (y_Model_fileError, prog_10_method_46_code, 6, (Option.some Jvm.ClassFile.FieldType.int)), [2, 0, 0], 0, false, { frames := 9, cells := 0, slots := 0, locals := 289 }, T_Model_fileError)
set_option maxRecDepth 100000 in
theorem ms_Model_fileError : am_MSp a_Model_fileError := am_ms_v 8119 9 8118 105012 8 rfl (by decide +kernel)
abbrev k_Model_fileError : List AC := [a_Model_num, a_Model_objectError, a_Model_isMembers]
set_option maxRecDepth 100000 in
theorem s_Model_fileError : (am_chkR { frames := 9, cells := 0, slots := 0, locals := 289 } k_Model_fileError && am_chkN c_Model_fileError { frames := 9, cells := 0, slots := 0, locals := 289 } && c_Model_fileError.all (am_chk "LinkHouseModel" prog_10_method_46_code 6 (Option.some Jvm.ClassFile.FieldType.int) k_Model_fileError) && c_Model_fileError.all (am_chkL m_Model_fileError) && decide (m_Model_fileError[0]? = some (0, am_argp 0 [2, 0, 0], [])) && decide (am_argn [2, 0, 0] ≤ 6)) = true := by decide +kernel
set_option maxHeartbeats 150000 in
set_option maxRecDepth 100000 in
theorem h_Model_fileError : ∀ X Q j v σ, B_Model_fileError X Q j v σ → am_at GR k_Model_fileError c_Model_fileError m_Model_fileError X Q 114 j v σ := fun X Q => am_sel_all (P := fun j v σ => am_at GR k_Model_fileError c_Model_fileError m_Model_fileError X Q 114 j v σ) (⟨(am_v3_of (fun t x1 x2 σ h => am_tk (fun e => by subst e; exact fun h => h) h)), ⟨(am_v5_of (fun t x1 x2 s0 s1 σ h => am_tk (fun e => by subst e; exact fun h => h) h)), ⟨(am_v6_of (fun t x1 x2 s0 s1 s2 σ h => am_tk (fun e => by subst e; exact fun h => h) h)), ⟨(am_v4_of (fun t x1 x3 x4 σ h => am_tk (fun e => by subst e; exact fun h => h) h)), ⟨(am_v4_of (fun t x1 x3 x4 σ h => am_tk (fun e => by subst e; exact fun h => h) h)), trivial⟩⟩⟩⟩⟩)
set_option maxRecDepth 100000 in
theorem S_Model_fileError (l : Launch) (w : AW) : am_S l w GR a_Model_fileError := am_sound (rt := 0) (cal := k_Model_fileError) 221 y_Model_fileError prog_10_method_46_code 6 (Option.some Jvm.ClassFile.FieldType.int) [2, 0, 0] false { frames := 9, cells := 0, slots := 0, locals := 289 } B_Model_fileError "LinkHouseModel" c_Model_fileError m_Model_fileError 114 ms_Model_fileError (by decide +kernel) rfl rfl (am_cal (S_Model_num l w) (am_cal (S_Model_objectError l w) (am_cal (S_Model_isMembers l w) (fun _ h => absurd h List.not_mem_nil)))) s_Model_fileError h_Model_fileError
set_option maxRecDepth 100000 in
theorem of_Model_fileError {Q : Int → AMem → Prop} {x1 x2 : Int} {σ : AMem} (h : ∀ X : Nat → List Int → AMem → Prop, (∀ (x1 x2 : Int) (σ : AMem), B_Model_fileError_0 X Q x1 x2 σ → X 0 [9790, x1, x2] σ) → (∀ (x1 x2 s0 s1 : Int) (σ : AMem), B_Model_fileError_1 X Q x1 x2 s0 s1 σ → X 1 [9790, x1, x2, s0, s1] σ) → (∀ (x1 x2 s0 s1 s2 : Int) (σ : AMem), B_Model_fileError_2 X Q x1 x2 s0 s1 s2 σ → X 2 [9790, x1, x2, s0, s1, s2] σ) → (∀ (x1 x3 x4 : Int) (σ : AMem), B_Model_fileError_3 X Q x1 x3 x4 σ → X 3 [9790, x1, x3, x4] σ) → (∀ (x1 x3 x4 : Int) (σ : AMem), B_Model_fileError_4 X Q x1 x3 x4 σ → X 4 [9790, x1, x3, x4] σ) → X 0 [9790, x1, x2] σ) : T_Model_fileError [9790, x1, x2] σ Q := fun X hX => h X (fun x1 x2 σ h => hX 0 [9790, x1, x2] σ h) (fun x1 x2 s0 s1 σ h => hX 1 [9790, x1, x2, s0, s1] σ h) (fun x1 x2 s0 s1 s2 σ h => hX 2 [9790, x1, x2, s0, s1, s2] σ h) (fun x1 x3 x4 σ h => hX 3 [9790, x1, x3, x4] σ h) (fun x1 x3 x4 σ h => hX 4 [9790, x1, x3, x4] σ h)
def c_Model_add : List aE := [(0, 1, .aload_n 0, 1, 0, 0, []), (1, 0, .aload_n 0, 1, 0, 0, []), (2, 0, .getfield 467, 3, 8, 5, [0, 0, 6194]), (5, 0, .bipush 8, 2, 0, 0, []), (7, 0, .if_icmp .ne 7, 3, 0, 0, []), (10, 0, .iconst 1, 1, 0, 0, []), (11, 0, .goto 4, 3, 0, 0, []), (14, 0, .iconst 0, 1, 0, 0, []), (15, 2, .iconst 0, 1, 0, 0, []), (16, 0, .invokevirtual 287, 3, 181, 8, [8108]), (19, 0, .ifCond .eq 5, 3, 0, 0, []), (22, 0, .iconst 0, 1, 0, 0, []), (23, 0, .ireturn, 1, 0, 0, []), (24, 0, .aload_n 0, 1, 0, 0, []), (25, 0, .getfield 284, 3, 8, 2, [0, 0, 6191]), (28, 0, .istore_n 1, 1, 0, 0, []), (29, 0, .iconst 0, 1, 0, 0, []), (30, 0, .istore_n 2, 1, 0, 0, []), (31, 3, .iload_n 2, 1, 0, 0, []), (32, 0, .iload_n 1, 1, 0, 0, []), (33, 0, .if_icmp .ge 30, 3, 0, 0, []), (36, 0, .aload_n 0, 1, 0, 0, []), (37, 0, .getfield 17, 3, 8, 6, [2, 0, 6195]), (40, 0, .sipush 8192, 3, 0, 0, []), (43, 0, .aload_n 0, 1, 0, 0, []), (44, 0, .getfield 467, 3, 8, 5, [0, 0, 6194]), (47, 0, .imul, 1, 0, 0, []), (48, 0, .iload_n 2, 1, 0, 0, []), (49, 0, .iadd, 1, 0, 0, []), (50, 0, .aload_n 0, 1, 0, 0, []), (51, 0, .getfield 7, 3, 8, 1, [2, 0, 6190]), (54, 0, .iload_n 2, 1, 0, 0, []), (55, 0, .baload, 1, 2, 0, []), (56, 0, .bastore, 1, 2, 0, []), (57, 0, .iinc 2 1, 3, 0, 0, []), (60, 0, .goto (-29), 3, 0, 0, []), (63, 0, .aload_n 0, 1, 0, 0, []), (64, 0, .iconst 0, 1, 0, 0, []), (65, 0, .putfield 284, 3, 8, 2, [0, 0, 6191]), (68, 0, .aload_n 0, 1, 0, 0, []), (69, 0, .aload_n 0, 1, 0, 0, []), (70, 0, .getfield 467, 3, 8, 5, [0, 0, 6194]), (73, 0, .iload_n 1, 1, 0, 0, []), (74, 0, .invokevirtual 470, 3, 221, 8, [8116]), (77, 0, .istore_n 2, 1, 0, 0, []), (78, 0, .iload_n 2, 1, 0, 0, []), (79, 0, .ifCond .le 5, 3, 0, 0, []), (82, 0, .iload_n 2, 1, 0, 0, []), (83, 0, .ireturn, 1, 0, 0, []), (84, 0, .aload_n 0, 1, 0, 0, []), (85, 0, .getfield 20, 3, 8, 7, [2, 0, 6196]), (88, 0, .aload_n 0, 1, 0, 0, []), (89, 0, .getfield 467, 3, 8, 5, [0, 0, 6194]), (92, 0, .iload_n 1, 1, 0, 0, []), (93, 0, .iastore, 1, 0, 0, []), (94, 0, .aload_n 0, 1, 0, 0, []), (95, 0, .getfield 50, 3, 8, 19, [2, 0, 6208]), (98, 0, .aload_n 0, 1, 0, 0, []), (99, 0, .getfield 467, 3, 8, 5, [0, 0, 6194]), (102, 0, .iconst 0, 1, 0, 0, []), (103, 0, .bastore, 1, 3, 0, []), (104, 0, .aload_n 0, 1, 0, 0, []), (105, 0, .dup, 1, 0, 0, []), (106, 0, .getfield 467, 3, 8, 5, [0, 0, 6194]), (109, 0, .iconst 1, 1, 0, 0, []), (110, 0, .iadd, 1, 0, 0, []), (111, 0, .putfield 467, 3, 8, 5, [0, 0, 6194]), (114, 0, .iconst 0, 1, 0, 0, []), (115, 0, .ireturn, 1, 0, 0, [])]
def m_Model_add : List aT := [(0, [(0, 2)], []), (15, [(0, 2)], [0, 2]), (31, [(0, 2), (1, 0), (2, 0)], [])]
def B_Model_add_0 (X : Nat → List Int → AMem → Prop) (Q : Int → AMem → Prop) (σ : AMem) : Prop :=
  (if (σ 9790 5) = 8 then
  X 1 [9790, 1, 9790] σ
  else
  X 1 [9790, 0, 9790] σ)
def B_Model_add_1 (X : Nat → List Int → AMem → Prop) (Q : Int → AMem → Prop) (s0 s1 : Int) (σ : AMem) : Prop :=
  (if ly_k s1 = 28 then T_Model_throwing [s1, s0, 0] σ (fun r1 σ2 => (if r1 = 0 then
  X 2 [9790, (σ2 9790 2), 0] σ2
  else
  Q 0 σ2)) else False)
def B_Model_add_2 (X : Nat → List Int → AMem → Prop) (Q : Int → AMem → Prop) (x1 x2 : Int) (σ : AMem) : Prop :=
  (if x2 < x1 then
  am_r32 (8192 * (σ 9790 5)) ∧ am_r32 ((8192 * (σ 9790 5)) + x2) ∧ 0 ≤ x2 ∧ x2 < 8192 ∧ 0 ≤ ((8192 * (σ 9790 5)) + x2) ∧ ((8192 * (σ 9790 5)) + x2) < 65536 ∧ am_let (am_upd σ 9793 ((8192 * (σ 9790 5)) + x2) (w8 (σ 9791 x2))) (fun σ7 => am_r32 (x2 + 1) ∧ X 2 [9790, x1, (x2 + 1)] σ7)
  else
  am_let (am_upd σ 9790 2 0) (fun σ1 => T_Model_fileError [9790, (σ1 9790 5), x1] σ1 (fun r2 σ3 => (if 0 < r2 then
    Q r2 σ3
    else
    0 ≤ (σ3 9790 5) ∧ (σ3 9790 5) < 8 ∧ am_let (am_upd σ3 9794 (σ3 9790 5) x1) (fun σ4 => 0 ≤ (σ4 9790 5) ∧ (σ4 9790 5) < 8 ∧ am_let (am_upd σ4 9802 (σ4 9790 5) 0) (fun σ5 => am_r32 ((σ5 9790 5) + 1) ∧ am_let (am_upd σ5 9790 5 ((σ5 9790 5) + 1)) (fun σ6 => Q 0 σ6)))))))
def B_Model_add : (Nat → List Int → AMem → Prop) → (Int → AMem → Prop) → Nat → List Int → AMem → Prop := fun X Q j v σ => am_sel [(am_v1 (fun t σ => if t = 9790 then B_Model_add_0 X Q σ else False)), (am_v3 (fun t s0 s1 σ => if t = 9790 then B_Model_add_1 X Q s0 s1 σ else False)), (am_v3 (fun t x1 x2 σ => if t = 9790 then B_Model_add_2 X Q x1 x2 σ else False))] j v σ
def T_Model_add : List Int → AMem → (Int → AMem → Prop) → Prop := am_T B_Model_add
abbrev y_Model_add : MethodName := ⟨"LinkHouseModel", "add", "()I"⟩
def a_Model_add : AC := (222, (y_Model_add, prog_10_method_47_code, 3, (Option.some Jvm.ClassFile.FieldType.int)), [2], 0, false, { frames := 10, cells := 0, slots := 0, locals := 322 }, T_Model_add)
set_option maxRecDepth 100000 in
theorem ms_Model_add : am_MSp a_Model_add := am_ms_v 8115 9 8113 8114 8 rfl (by decide +kernel)
abbrev k_Model_add : List AC := [a_Model_throwing, a_Model_fileError]
set_option maxRecDepth 100000 in
theorem s_Model_add : (am_chkR { frames := 10, cells := 0, slots := 0, locals := 322 } k_Model_add && am_chkN c_Model_add { frames := 10, cells := 0, slots := 0, locals := 322 } && c_Model_add.all (am_chk "LinkHouseModel" prog_10_method_47_code 3 (Option.some Jvm.ClassFile.FieldType.int) k_Model_add) && c_Model_add.all (am_chkL m_Model_add) && decide (m_Model_add[0]? = some (0, am_argp 0 [2], [])) && decide (am_argn [2] ≤ 3)) = true := by decide +kernel
set_option maxHeartbeats 150000 in
set_option maxRecDepth 100000 in
theorem h_Model_add : ∀ X Q j v σ, B_Model_add X Q j v σ → am_at GR k_Model_add c_Model_add m_Model_add X Q 74 j v σ := fun X Q => am_sel_all (P := fun j v σ => am_at GR k_Model_add c_Model_add m_Model_add X Q 74 j v σ) (⟨(am_v1_of (fun t σ h => am_tk (fun e => by subst e; exact fun h => h) h)), ⟨(am_v3_of (fun t s0 s1 σ h => am_tk (fun e => by subst e; exact fun h => h) h)), ⟨(am_v3_of (fun t x1 x2 σ h => am_tk (fun e => by subst e; exact fun h => h) h)), trivial⟩⟩⟩)
set_option maxRecDepth 100000 in
theorem S_Model_add (l : Launch) (w : AW) : am_S l w GR a_Model_add := am_sound (rt := 0) (cal := k_Model_add) 222 y_Model_add prog_10_method_47_code 3 (Option.some Jvm.ClassFile.FieldType.int) [2] false { frames := 10, cells := 0, slots := 0, locals := 322 } B_Model_add "LinkHouseModel" c_Model_add m_Model_add 74 ms_Model_add (by decide +kernel) rfl rfl (am_cal (S_Model_throwing l w) (am_cal (S_Model_fileError l w) (fun _ h => absurd h List.not_mem_nil))) s_Model_add h_Model_add
set_option maxRecDepth 100000 in
theorem of_Model_add {Q : Int → AMem → Prop} {σ : AMem} (h : ∀ X : Nat → List Int → AMem → Prop, (∀ (σ : AMem), B_Model_add_0 X Q σ → X 0 [9790] σ) → (∀ (s0 s1 : Int) (σ : AMem), B_Model_add_1 X Q s0 s1 σ → X 1 [9790, s0, s1] σ) → (∀ (x1 x2 : Int) (σ : AMem), B_Model_add_2 X Q x1 x2 σ → X 2 [9790, x1, x2] σ) → X 0 [9790] σ) : T_Model_add [9790] σ Q := fun X hX => h X (fun σ h => hX 0 [9790] σ h) (fun s0 s1 σ h => hX 1 [9790, s0, s1] σ h) (fun x1 x2 σ h => hX 2 [9790, x1, x2] σ h)
def c_Model_drop : List aE := [(0, 1, .aload_n 0, 1, 0, 0, []), (1, 0, .aload_n 0, 1, 0, 0, []), (2, 0, .getfield 467, 3, 8, 5, [0, 0, 6194]), (5, 0, .ifCond .ne 7, 3, 0, 0, []), (8, 0, .iconst 1, 1, 0, 0, []), (9, 0, .goto 4, 3, 0, 0, []), (12, 0, .iconst 0, 1, 0, 0, []), (13, 2, .iconst 0, 1, 0, 0, []), (14, 0, .invokevirtual 287, 3, 181, 8, [8108]), (17, 0, .ifCond .eq 5, 3, 0, 0, []), (20, 0, .iconst 0, 1, 0, 0, []), (21, 0, .ireturn, 1, 0, 0, []), (22, 0, .aload_n 0, 1, 0, 0, []), (23, 0, .dup, 1, 0, 0, []), (24, 0, .getfield 467, 3, 8, 5, [0, 0, 6194]), (27, 0, .iconst 1, 1, 0, 0, []), (28, 0, .isub, 1, 0, 0, []), (29, 0, .putfield 467, 3, 8, 5, [0, 0, 6194]), (32, 0, .aload_n 0, 1, 0, 0, []), (33, 0, .getfield 467, 3, 8, 5, [0, 0, 6194]), (36, 0, .ireturn, 1, 0, 0, [])]
def m_Model_drop : List aT := [(0, [(0, 2)], []), (13, [(0, 2)], [0, 2])]
def B_Model_drop_0 (X : Nat → List Int → AMem → Prop) (Q : Int → AMem → Prop) (σ : AMem) : Prop :=
  (if (σ 9790 5) = 0 then
  X 1 [9790, 1, 9790] σ
  else
  X 1 [9790, 0, 9790] σ)
def B_Model_drop_1 (X : Nat → List Int → AMem → Prop) (Q : Int → AMem → Prop) (s0 s1 : Int) (σ : AMem) : Prop :=
  (if ly_k s1 = 28 then T_Model_throwing [s1, s0, 0] σ (fun r1 σ2 => (if r1 = 0 then
  am_r32 ((σ2 9790 5) - 1) ∧ am_let (am_upd σ2 9790 5 ((σ2 9790 5) - 1)) (fun σ3 => Q (σ3 9790 5) σ3)
  else
  Q 0 σ2)) else False)
def B_Model_drop : (Nat → List Int → AMem → Prop) → (Int → AMem → Prop) → Nat → List Int → AMem → Prop := fun X Q j v σ => am_sel [(am_v1 (fun t σ => if t = 9790 then B_Model_drop_0 X Q σ else False)), (am_v3 (fun t s0 s1 σ => if t = 9790 then B_Model_drop_1 X Q s0 s1 σ else False))] j v σ
def T_Model_drop : List Int → AMem → (Int → AMem → Prop) → Prop := am_T B_Model_drop
abbrev y_Model_drop : MethodName := ⟨"LinkHouseModel", "drop", "()I"⟩
def a_Model_drop : AC := (223, (y_Model_drop, prog_10_method_48_code, 1, (Option.some Jvm.ClassFile.FieldType.int)), [2], 0, false, { frames := 1, cells := 0, slots := 0, locals := 30 }, T_Model_drop)
set_option maxRecDepth 100000 in
theorem ms_Model_drop : am_MSp a_Model_drop := am_ms_v 9055 9 9053 9054 8 rfl (by decide +kernel)
abbrev k_Model_drop : List AC := [a_Model_throwing]
set_option maxRecDepth 100000 in
theorem s_Model_drop : (am_chkR { frames := 1, cells := 0, slots := 0, locals := 30 } k_Model_drop && am_chkN c_Model_drop { frames := 1, cells := 0, slots := 0, locals := 30 } && c_Model_drop.all (am_chk "LinkHouseModel" prog_10_method_48_code 1 (Option.some Jvm.ClassFile.FieldType.int) k_Model_drop) && c_Model_drop.all (am_chkL m_Model_drop) && decide (m_Model_drop[0]? = some (0, am_argp 0 [2], [])) && decide (am_argn [2] ≤ 1)) = true := by decide +kernel
set_option maxHeartbeats 150000 in
set_option maxRecDepth 100000 in
theorem h_Model_drop : ∀ X Q j v σ, B_Model_drop X Q j v σ → am_at GR k_Model_drop c_Model_drop m_Model_drop X Q 26 j v σ := fun X Q => am_sel_all (P := fun j v σ => am_at GR k_Model_drop c_Model_drop m_Model_drop X Q 26 j v σ) (⟨(am_v1_of (fun t σ h => am_tk (fun e => by subst e; exact fun h => h) h)), ⟨(am_v3_of (fun t s0 s1 σ h => am_tk (fun e => by subst e; exact fun h => h) h)), trivial⟩⟩)
set_option maxRecDepth 100000 in
theorem S_Model_drop (l : Launch) (w : AW) : am_S l w GR a_Model_drop := am_sound (rt := 0) (cal := k_Model_drop) 223 y_Model_drop prog_10_method_48_code 1 (Option.some Jvm.ClassFile.FieldType.int) [2] false { frames := 1, cells := 0, slots := 0, locals := 30 } B_Model_drop "LinkHouseModel" c_Model_drop m_Model_drop 26 ms_Model_drop (by decide +kernel) rfl rfl (am_cal (S_Model_throwing l w) (fun _ h => absurd h List.not_mem_nil)) s_Model_drop h_Model_drop
set_option maxRecDepth 100000 in
theorem of_Model_drop {Q : Int → AMem → Prop} {σ : AMem} (h : ∀ X : Nat → List Int → AMem → Prop, (∀ (σ : AMem), B_Model_drop_0 X Q σ → X 0 [9790] σ) → (∀ (s0 s1 : Int) (σ : AMem), B_Model_drop_1 X Q s0 s1 σ → X 1 [9790, s0, s1] σ) → X 0 [9790] σ) : T_Model_drop [9790] σ Q := fun X hX => h X (fun σ h => hX 0 [9790] σ h) (fun s0 s1 σ h => hX 1 [9790, s0, s1] σ h)
def c_Model_isTapeName : List aE := [(0, 1, .aload_n 0, 1, 0, 0, []), (1, 0, .getfield 284, 3, 8, 2, [0, 0, 6191]), (4, 0, .ifCond .le 16, 3, 0, 0, []), (7, 0, .aload_n 0, 1, 0, 0, []), (8, 0, .getfield 284, 3, 8, 2, [0, 0, 6191]), (11, 0, .bipush 20, 2, 0, 0, []), (13, 0, .if_icmp .gt 7, 3, 0, 0, []), (16, 0, .iconst 1, 1, 0, 0, []), (17, 0, .goto 4, 3, 0, 0, []), (20, 2, .iconst 0, 1, 0, 0, []), (21, 3, .istore_n 1, 1, 0, 0, []), (22, 0, .iconst 0, 1, 0, 0, []), (23, 0, .istore_n 2, 1, 0, 0, []), (24, 4, .iload_n 2, 1, 0, 0, []), (25, 0, .aload_n 0, 1, 0, 0, []), (26, 0, .getfield 284, 3, 8, 2, [0, 0, 6191]), (29, 0, .if_icmp .ge 28, 3, 0, 0, []), (32, 0, .iload_n 1, 1, 0, 0, []), (33, 0, .ifCond .eq 24, 3, 0, 0, []), (36, 0, .aload_n 0, 1, 0, 0, []), (37, 0, .getfield 7, 3, 8, 1, [2, 0, 6190]), (40, 0, .iload_n 2, 1, 0, 0, []), (41, 0, .baload, 1, 2, 0, []), (42, 0, .ifCond .eq 7, 3, 0, 0, []), (45, 0, .iconst 1, 1, 0, 0, []), (46, 0, .goto 4, 3, 0, 0, []), (49, 0, .iconst 0, 1, 0, 0, []), (50, 5, .istore_n 1, 1, 0, 0, []), (51, 0, .iinc 2 1, 3, 0, 0, []), (54, 0, .goto (-30), 3, 0, 0, []), (57, 0, .iload_n 1, 1, 0, 0, []), (58, 0, .ireturn, 1, 1, 0, [])]
def m_Model_isTapeName : List aT := [(0, [(0, 2)], []), (20, [(0, 2)], []), (21, [(0, 2)], [0]), (24, [(0, 2), (1, 0), (2, 0)], []), (50, [(0, 2), (2, 0)], [0])]
def B_Model_isTapeName_0 (X : Nat → List Int → AMem → Prop) (Q : Int → AMem → Prop) (σ : AMem) : Prop :=
  (if 0 < (σ 9790 2) then
  (if 20 < (σ 9790 2) then
    X 1 [9790] σ
    else
    X 2 [9790, 1] σ)
  else
  X 1 [9790] σ)
def B_Model_isTapeName_1 (X : Nat → List Int → AMem → Prop) (Q : Int → AMem → Prop) (σ : AMem) : Prop :=
  X 2 [9790, 0] σ
def B_Model_isTapeName_2 (X : Nat → List Int → AMem → Prop) (Q : Int → AMem → Prop) (s0 : Int) (σ : AMem) : Prop :=
  X 3 [9790, s0, 0] σ
def B_Model_isTapeName_3 (X : Nat → List Int → AMem → Prop) (Q : Int → AMem → Prop) (x1 x2 : Int) (σ : AMem) : Prop :=
  (if x2 < (σ 9790 2) then
  (if x1 = 0 then
    (if x1 = 0 ∨ x1 = 1 then Q x1 σ else False)
    else
    0 ≤ x2 ∧ x2 < 8192 ∧ (if (σ 9791 x2) = 0 then
      X 4 [9790, x2, 0] σ
      else
      X 4 [9790, x2, 1] σ))
  else
  (if x1 = 0 ∨ x1 = 1 then Q x1 σ else False))
def B_Model_isTapeName_4 (X : Nat → List Int → AMem → Prop) (Q : Int → AMem → Prop) (x2 s0 : Int) (σ : AMem) : Prop :=
  am_r32 (x2 + 1) ∧ X 3 [9790, s0, (x2 + 1)] σ
def B_Model_isTapeName : (Nat → List Int → AMem → Prop) → (Int → AMem → Prop) → Nat → List Int → AMem → Prop := fun X Q j v σ => am_sel [(am_v1 (fun t σ => if t = 9790 then B_Model_isTapeName_0 X Q σ else False)), (am_v1 (fun t σ => if t = 9790 then B_Model_isTapeName_1 X Q σ else False)), (am_v2 (fun t s0 σ => if t = 9790 then B_Model_isTapeName_2 X Q s0 σ else False)), (am_v3 (fun t x1 x2 σ => if t = 9790 then B_Model_isTapeName_3 X Q x1 x2 σ else False)), (am_v3 (fun t x2 s0 σ => if t = 9790 then B_Model_isTapeName_4 X Q x2 s0 σ else False))] j v σ
def T_Model_isTapeName : List Int → AMem → (Int → AMem → Prop) → Prop := am_T B_Model_isTapeName
abbrev y_Model_isTapeName : MethodName := ⟨"LinkHouseModel", "isTapeName", "()Z"⟩
def a_Model_isTapeName : AC := (224, (y_Model_isTapeName, prog_10_method_56_code, 3, (Option.some Jvm.ClassFile.FieldType.boolean)), [2], 0, false, { frames := 0, cells := 0, slots := 0, locals := 0 }, T_Model_isTapeName)
set_option maxRecDepth 100000 in
theorem ms_Model_isTapeName : am_MSp a_Model_isTapeName := am_ms_v 9063 9 9062 107015 8 rfl (by decide +kernel)
abbrev k_Model_isTapeName : List AC := []
set_option maxRecDepth 100000 in
theorem s_Model_isTapeName : (am_chkR { frames := 0, cells := 0, slots := 0, locals := 0 } k_Model_isTapeName && am_chkN c_Model_isTapeName { frames := 0, cells := 0, slots := 0, locals := 0 } && c_Model_isTapeName.all (am_chk "LinkHouseModel" prog_10_method_56_code 3 (Option.some Jvm.ClassFile.FieldType.boolean) k_Model_isTapeName) && c_Model_isTapeName.all (am_chkL m_Model_isTapeName) && decide (m_Model_isTapeName[0]? = some (0, am_argp 0 [2], [])) && decide (am_argn [2] ≤ 3)) = true := by decide +kernel
set_option maxHeartbeats 150000 in
set_option maxRecDepth 100000 in
theorem h_Model_isTapeName : ∀ X Q j v σ, B_Model_isTapeName X Q j v σ → am_at GR k_Model_isTapeName c_Model_isTapeName m_Model_isTapeName X Q 37 j v σ := fun X Q => am_sel_all (P := fun j v σ => am_at GR k_Model_isTapeName c_Model_isTapeName m_Model_isTapeName X Q 37 j v σ) (⟨(am_v1_of (fun t σ h => am_tk (fun e => by subst e; exact fun h => h) h)), ⟨(am_v1_of (fun t σ h => am_tk (fun e => by subst e; exact fun h => h) h)), ⟨(am_v2_of (fun t s0 σ h => am_tk (fun e => by subst e; exact fun h => h) h)), ⟨(am_v3_of (fun t x1 x2 σ h => am_tk (fun e => by subst e; exact fun h => h) h)), ⟨(am_v3_of (fun t x2 s0 σ h => am_tk (fun e => by subst e; exact fun h => h) h)), trivial⟩⟩⟩⟩⟩)
set_option maxRecDepth 100000 in
theorem S_Model_isTapeName (l : Launch) (w : AW) : am_S l w GR a_Model_isTapeName := am_sound (rt := 0) (cal := k_Model_isTapeName) 224 y_Model_isTapeName prog_10_method_56_code 3 (Option.some Jvm.ClassFile.FieldType.boolean) [2] false { frames := 0, cells := 0, slots := 0, locals := 0 } B_Model_isTapeName "LinkHouseModel" c_Model_isTapeName m_Model_isTapeName 37 ms_Model_isTapeName (by decide +kernel) rfl rfl (fun _ h => absurd h List.not_mem_nil) s_Model_isTapeName h_Model_isTapeName
set_option maxRecDepth 100000 in
theorem of_Model_isTapeName {Q : Int → AMem → Prop} {σ : AMem} (h : ∀ X : Nat → List Int → AMem → Prop, (∀ (σ : AMem), B_Model_isTapeName_0 X Q σ → X 0 [9790] σ) → (∀ (σ : AMem), B_Model_isTapeName_1 X Q σ → X 1 [9790] σ) → (∀ (s0 : Int) (σ : AMem), B_Model_isTapeName_2 X Q s0 σ → X 2 [9790, s0] σ) → (∀ (x1 x2 : Int) (σ : AMem), B_Model_isTapeName_3 X Q x1 x2 σ → X 3 [9790, x1, x2] σ) → (∀ (x2 s0 : Int) (σ : AMem), B_Model_isTapeName_4 X Q x2 s0 σ → X 4 [9790, x2, s0] σ) → X 0 [9790] σ) : T_Model_isTapeName [9790] σ Q := fun X hX => h X (fun σ h => hX 0 [9790] σ h) (fun σ h => hX 1 [9790] σ h) (fun s0 σ h => hX 2 [9790, s0] σ h) (fun x1 x2 σ h => hX 3 [9790, x1, x2] σ h) (fun x2 s0 σ h => hX 4 [9790, x2, s0] σ h)
def c_Model_toldAt : List aE := [(0, 1, .iconst 0, 1, 0, 0, []), (1, 0, .istore 4, 2, 0, 0, []), (3, 2, .iload 4, 2, 0, 0, []), (5, 0, .iload_n 3, 1, 0, 0, []), (6, 0, .if_icmp .ge 85, 3, 0, 0, []), (9, 0, .aload_n 2, 1, 0, 0, []), (10, 0, .iload 4, 2, 0, 0, []), (12, 0, .iaload, 1, 0, 0, []), (13, 0, .aload_n 0, 1, 0, 0, []), (14, 0, .getfield 284, 3, 8, 2, [0, 0, 6191]), (17, 0, .if_icmp .ne 7, 3, 0, 0, []), (20, 0, .iconst 1, 1, 0, 0, []), (21, 0, .goto 4, 3, 0, 0, []), (24, 0, .iconst 0, 1, 0, 0, []), (25, 3, .istore 5, 2, 0, 0, []), (27, 0, .iconst 0, 1, 0, 0, []), (28, 0, .istore 6, 2, 0, 0, []), (30, 4, .iload 6, 2, 0, 0, []), (32, 0, .aload_n 0, 1, 0, 0, []), (33, 0, .getfield 284, 3, 8, 2, [0, 0, 6191]), (36, 0, .if_icmp .ge 41, 3, 0, 0, []), (39, 0, .iload 5, 2, 0, 0, []), (41, 0, .ifCond .eq 36, 3, 0, 0, []), (44, 0, .aload_n 1, 1, 0, 0, []), (45, 0, .bipush 20, 2, 0, 0, []), (47, 0, .iload 4, 2, 0, 0, []), (49, 0, .imul, 1, 0, 0, []), (50, 0, .iload 6, 2, 0, 0, []), (52, 0, .iadd, 1, 0, 0, []), (53, 0, .baload, 1, 2, 0, []), (54, 0, .aload_n 0, 1, 0, 0, []), (55, 0, .getfield 7, 3, 8, 1, [2, 0, 6190]), (58, 0, .iload 6, 2, 0, 0, []), (60, 0, .baload, 1, 2, 0, []), (61, 0, .if_icmp .ne 7, 3, 0, 0, []), (64, 0, .iconst 1, 1, 0, 0, []), (65, 0, .goto 4, 3, 0, 0, []), (68, 0, .iconst 0, 1, 0, 0, []), (69, 5, .istore 5, 2, 0, 0, []), (71, 0, .iinc 6 1, 3, 0, 0, []), (74, 0, .goto (-44), 3, 0, 0, []), (77, 6, .iload 5, 2, 0, 0, []), (79, 0, .ifCond .eq 6, 3, 0, 0, []), (82, 0, .iload 4, 2, 0, 0, []), (84, 0, .ireturn, 1, 0, 0, []), (85, 0, .iinc 4 1, 3, 0, 0, []), (88, 0, .goto (-85), 3, 0, 0, []), (91, 0, .iconst (-1), 1, 0, 0, []), (92, 0, .ireturn, 1, 0, 0, [])]
def m_Model_toldAt : List aT := [(0, [(0, 2), (1, 2), (2, 2), (3, 0)], []), (3, [(0, 2), (1, 2), (2, 2), (3, 0), (4, 0)], []), (25, [(0, 2), (1, 2), (2, 2), (3, 0), (4, 0)], [0]), (30, [(0, 2), (1, 2), (2, 2), (3, 0), (4, 0), (5, 0), (6, 0)], []), (69, [(0, 2), (1, 2), (2, 2), (3, 0), (4, 0), (6, 0)], [0]), (77, [(0, 2), (1, 2), (2, 2), (3, 0), (4, 0), (5, 0)], [])]
def B_Model_toldAt_0 (X : Nat → List Int → AMem → Prop) (Q : Int → AMem → Prop) (x1 x2 x3 : Int) (σ : AMem) : Prop :=
  X 1 [9790, x1, x2, x3, 0] σ
def B_Model_toldAt_1 (X : Nat → List Int → AMem → Prop) (Q : Int → AMem → Prop) (x1 x2 x3 x4 : Int) (σ : AMem) : Prop :=
  (if x4 < x3 then
  (if ly_k x2 = 1 then 0 ≤ x4 ∧ x4 < ly_l x2 ∧ (if (σ x2 x4) = (σ 9790 2) then
    X 2 [9790, x1, x2, x3, x4, 1] σ
    else
    X 2 [9790, x1, x2, x3, x4, 0] σ) else False)
  else
  Q (-1) σ)
def B_Model_toldAt_2 (X : Nat → List Int → AMem → Prop) (Q : Int → AMem → Prop) (x1 x2 x3 x4 s0 : Int) (σ : AMem) : Prop :=
  X 3 [9790, x1, x2, x3, x4, s0, 0] σ
def B_Model_toldAt_3 (X : Nat → List Int → AMem → Prop) (Q : Int → AMem → Prop) (x1 x2 x3 x4 x5 x6 : Int) (σ : AMem) : Prop :=
  (if x6 < (σ 9790 2) then
  (if x5 = 0 then
    X 5 [9790, x1, x2, x3, x4, x5] σ
    else
    am_r32 (20 * x4) ∧ am_r32 ((20 * x4) + x6) ∧ (if ly_k x1 = 2 then 0 ≤ ((20 * x4) + x6) ∧ ((20 * x4) + x6) < ly_l x1 ∧ 0 ≤ x6 ∧ x6 < 8192 ∧ (if (σ x1 ((20 * x4) + x6)) = (σ 9791 x6) then
      X 4 [9790, x1, x2, x3, x4, x6, 1] σ
      else
      X 4 [9790, x1, x2, x3, x4, x6, 0] σ) else False))
  else
  X 5 [9790, x1, x2, x3, x4, x5] σ)
def B_Model_toldAt_4 (X : Nat → List Int → AMem → Prop) (Q : Int → AMem → Prop) (x1 x2 x3 x4 x6 s0 : Int) (σ : AMem) : Prop :=
  am_r32 (x6 + 1) ∧ X 3 [9790, x1, x2, x3, x4, s0, (x6 + 1)] σ
def B_Model_toldAt_5 (X : Nat → List Int → AMem → Prop) (Q : Int → AMem → Prop) (x1 x2 x3 x4 x5 : Int) (σ : AMem) : Prop :=
  (if x5 = 0 then
  am_r32 (x4 + 1) ∧ X 1 [9790, x1, x2, x3, (x4 + 1)] σ
  else
  Q x4 σ)
def B_Model_toldAt : (Nat → List Int → AMem → Prop) → (Int → AMem → Prop) → Nat → List Int → AMem → Prop := fun X Q j v σ => am_sel [(am_v4 (fun t x1 x2 x3 σ => if t = 9790 then B_Model_toldAt_0 X Q x1 x2 x3 σ else False)), (am_v5 (fun t x1 x2 x3 x4 σ => if t = 9790 then B_Model_toldAt_1 X Q x1 x2 x3 x4 σ else False)), (am_v6 (fun t x1 x2 x3 x4 s0 σ => if t = 9790 then B_Model_toldAt_2 X Q x1 x2 x3 x4 s0 σ else False)), (am_v7 (fun t x1 x2 x3 x4 x5 x6 σ => if t = 9790 then B_Model_toldAt_3 X Q x1 x2 x3 x4 x5 x6 σ else False)), (am_v7 (fun t x1 x2 x3 x4 x6 s0 σ => if t = 9790 then B_Model_toldAt_4 X Q x1 x2 x3 x4 x6 s0 σ else False)), (am_v6 (fun t x1 x2 x3 x4 x5 σ => if t = 9790 then B_Model_toldAt_5 X Q x1 x2 x3 x4 x5 σ else False))] j v σ
def T_Model_toldAt : List Int → AMem → (Int → AMem → Prop) → Prop := am_T B_Model_toldAt
abbrev y_Model_toldAt : MethodName := ⟨"LinkHouseModel", "toldAt", "([B[II)I"⟩
def a_Model_toldAt : AC := (225, (y_Model_toldAt, prog_10_method_55_code, 7, (Option.some Jvm.ClassFile.FieldType.int)), [2, 2, 2, 0], 0, false, { frames := 0, cells := 0, slots := 0, locals := 0 }, T_Model_toldAt)
set_option maxRecDepth 100000 in
theorem ms_Model_toldAt : am_MSp a_Model_toldAt := am_ms_v 9067 9 9066 108000 8 rfl (by decide +kernel)
abbrev k_Model_toldAt : List AC := []
set_option maxRecDepth 100000 in
theorem s_Model_toldAt : (am_chkR { frames := 0, cells := 0, slots := 0, locals := 0 } k_Model_toldAt && am_chkN c_Model_toldAt { frames := 0, cells := 0, slots := 0, locals := 0 } && c_Model_toldAt.all (am_chk "LinkHouseModel" prog_10_method_55_code 7 (Option.some Jvm.ClassFile.FieldType.int) k_Model_toldAt) && c_Model_toldAt.all (am_chkL m_Model_toldAt) && decide (m_Model_toldAt[0]? = some (0, am_argp 0 [2, 2, 2, 0], [])) && decide (am_argn [2, 2, 2, 0] ≤ 7)) = true := by decide +kernel
set_option maxHeartbeats 150000 in
set_option maxRecDepth 100000 in
theorem h_Model_toldAt : ∀ X Q j v σ, B_Model_toldAt X Q j v σ → am_at GR k_Model_toldAt c_Model_toldAt m_Model_toldAt X Q 54 j v σ := fun X Q => am_sel_all (P := fun j v σ => am_at GR k_Model_toldAt c_Model_toldAt m_Model_toldAt X Q 54 j v σ) (⟨(am_v4_of (fun t x1 x2 x3 σ h => am_tk (fun e => by subst e; exact fun h => h) h)), ⟨(am_v5_of (fun t x1 x2 x3 x4 σ h => am_tk (fun e => by subst e; exact fun h => h) h)), ⟨(am_v6_of (fun t x1 x2 x3 x4 s0 σ h => am_tk (fun e => by subst e; exact fun h => h) h)), ⟨(am_v7_of (fun t x1 x2 x3 x4 x5 x6 σ h => am_tk (fun e => by subst e; exact fun h => h) h)), ⟨(am_v7_of (fun t x1 x2 x3 x4 x6 s0 σ h => am_tk (fun e => by subst e; exact fun h => h) h)), ⟨(am_v6_of (fun t x1 x2 x3 x4 x5 σ h => am_tk (fun e => by subst e; exact fun h => h) h)), trivial⟩⟩⟩⟩⟩⟩)
set_option maxRecDepth 100000 in
theorem S_Model_toldAt (l : Launch) (w : AW) : am_S l w GR a_Model_toldAt := am_sound (rt := 0) (cal := k_Model_toldAt) 225 y_Model_toldAt prog_10_method_55_code 7 (Option.some Jvm.ClassFile.FieldType.int) [2, 2, 2, 0] false { frames := 0, cells := 0, slots := 0, locals := 0 } B_Model_toldAt "LinkHouseModel" c_Model_toldAt m_Model_toldAt 54 ms_Model_toldAt (by decide +kernel) rfl rfl (fun _ h => absurd h List.not_mem_nil) s_Model_toldAt h_Model_toldAt
set_option maxRecDepth 100000 in
theorem of_Model_toldAt {Q : Int → AMem → Prop} {x1 x2 x3 : Int} {σ : AMem} (h : ∀ X : Nat → List Int → AMem → Prop, (∀ (x1 x2 x3 : Int) (σ : AMem), B_Model_toldAt_0 X Q x1 x2 x3 σ → X 0 [9790, x1, x2, x3] σ) → (∀ (x1 x2 x3 x4 : Int) (σ : AMem), B_Model_toldAt_1 X Q x1 x2 x3 x4 σ → X 1 [9790, x1, x2, x3, x4] σ) → (∀ (x1 x2 x3 x4 s0 : Int) (σ : AMem), B_Model_toldAt_2 X Q x1 x2 x3 x4 s0 σ → X 2 [9790, x1, x2, x3, x4, s0] σ) → (∀ (x1 x2 x3 x4 x5 x6 : Int) (σ : AMem), B_Model_toldAt_3 X Q x1 x2 x3 x4 x5 x6 σ → X 3 [9790, x1, x2, x3, x4, x5, x6] σ) → (∀ (x1 x2 x3 x4 x6 s0 : Int) (σ : AMem), B_Model_toldAt_4 X Q x1 x2 x3 x4 x6 s0 σ → X 4 [9790, x1, x2, x3, x4, x6, s0] σ) → (∀ (x1 x2 x3 x4 x5 : Int) (σ : AMem), B_Model_toldAt_5 X Q x1 x2 x3 x4 x5 σ → X 5 [9790, x1, x2, x3, x4, x5] σ) → X 0 [9790, x1, x2, x3] σ) : T_Model_toldAt [9790, x1, x2, x3] σ Q := fun X hX => h X (fun x1 x2 x3 σ h => hX 0 [9790, x1, x2, x3] σ h) (fun x1 x2 x3 x4 σ h => hX 1 [9790, x1, x2, x3, x4] σ h) (fun x1 x2 x3 x4 s0 σ h => hX 2 [9790, x1, x2, x3, x4, s0] σ h) (fun x1 x2 x3 x4 x5 x6 σ h => hX 3 [9790, x1, x2, x3, x4, x5, x6] σ h) (fun x1 x2 x3 x4 x6 s0 σ h => hX 4 [9790, x1, x2, x3, x4, x6, s0] σ h) (fun x1 x2 x3 x4 x5 σ h => hX 5 [9790, x1, x2, x3, x4, x5] σ h)
def c_Model_give : List aE := [(0, 1, .aload_n 0, 1, 0, 0, []), (1, 0, .invokevirtual 495, 3, 224, 8, [9060]), (4, 0, .ifCond .ne 7, 3, 0, 0, []), (7, 0, .iconst 1, 1, 0, 0, []), (8, 0, .goto 4, 3, 0, 0, []), (11, 0, .iconst 0, 1, 0, 0, []), (12, 2, .istore_n 3, 1, 0, 0, []), (13, 0, .iload_n 3, 1, 0, 0, []), (14, 0, .ifCond .ne 35, 3, 0, 0, []), (17, 0, .aload_n 0, 1, 0, 0, []), (18, 0, .getfield 486, 3, 8, 31, [0, 0, 6220]), (21, 0, .bipush 16, 2, 0, 0, []), (23, 0, .if_icmp .eq 22, 3, 0, 0, []), (26, 0, .aload_n 0, 1, 0, 0, []), (27, 0, .aload_n 0, 1, 0, 0, []), (28, 0, .getfield 85, 3, 8, 33, [2, 0, 6222]), (31, 0, .aload_n 0, 1, 0, 0, []), (32, 0, .getfield 91, 3, 8, 35, [2, 0, 6224]), (35, 0, .aload_n 0, 1, 0, 0, []), (36, 0, .getfield 486, 3, 8, 31, [0, 0, 6220]), (39, 0, .invokevirtual 499, 3, 225, 8, [9064]), (42, 0, .ifCond .lt 7, 3, 0, 0, []), (45, 3, .iconst 1, 1, 0, 0, []), (46, 0, .goto 4, 3, 0, 0, []), (49, 4, .iconst 0, 1, 0, 0, []), (50, 5, .istore 4, 2, 0, 0, []), (52, 0, .aload_n 0, 1, 0, 0, []), (53, 0, .getfield 284, 3, 8, 2, [0, 0, 6191]), (56, 0, .istore 5, 2, 0, 0, []), (58, 0, .aload_n 0, 1, 0, 0, []), (59, 0, .iconst 0, 1, 0, 0, []), (60, 0, .putfield 284, 3, 8, 2, [0, 0, 6191]), (63, 0, .aload_n 0, 1, 0, 0, []), (64, 0, .iload_n 3, 1, 0, 0, []), (65, 0, .iload 4, 2, 0, 0, []), (67, 0, .invokevirtual 287, 3, 181, 8, [8108]), (70, 0, .ifCond .eq 5, 3, 0, 0, []), (73, 0, .iconst 0, 1, 0, 0, []), (74, 0, .ireturn, 1, 0, 0, []), (75, 0, .iconst 0, 1, 0, 0, []), (76, 0, .istore 6, 2, 0, 0, []), (78, 6, .iload 6, 2, 0, 0, []), (80, 0, .iload 5, 2, 0, 0, []), (82, 0, .if_icmp .ge 31, 3, 0, 0, []), (85, 0, .aload_n 0, 1, 0, 0, []), (86, 0, .getfield 85, 3, 8, 33, [2, 0, 6222]), (89, 0, .bipush 20, 2, 0, 0, []), (91, 0, .aload_n 0, 1, 0, 0, []), (92, 0, .getfield 486, 3, 8, 31, [0, 0, 6220]), (95, 0, .imul, 1, 0, 0, []), (96, 0, .iload 6, 2, 0, 0, []), (98, 0, .iadd, 1, 0, 0, []), (99, 0, .aload_n 0, 1, 0, 0, []), (100, 0, .getfield 7, 3, 8, 1, [2, 0, 6190]), (103, 0, .iload 6, 2, 0, 0, []), (105, 0, .baload, 1, 2, 0, []), (106, 0, .bastore, 1, 2, 0, []), (107, 0, .iinc 6 1, 3, 0, 0, []), (110, 0, .goto (-32), 3, 0, 0, []), (113, 0, .aload_n 0, 1, 0, 0, []), (114, 0, .getfield 91, 3, 8, 35, [2, 0, 6224]), (117, 0, .aload_n 0, 1, 0, 0, []), (118, 0, .getfield 486, 3, 8, 31, [0, 0, 6220]), (121, 0, .iload 5, 2, 0, 0, []), (123, 0, .iastore, 1, 0, 0, []), (124, 0, .aload_n 0, 1, 0, 0, []), (125, 0, .getfield 97, 3, 8, 37, [2, 0, 6226]), (128, 0, .aload_n 0, 1, 0, 0, []), (129, 0, .getfield 486, 3, 8, 31, [0, 0, 6220]), (132, 0, .lload_n 1, 1, 0, 0, []), (133, 0, .lastore, 1, 0, 0, []), (134, 0, .aload_n 0, 1, 0, 0, []), (135, 0, .dup, 1, 0, 0, []), (136, 0, .getfield 486, 3, 8, 31, [0, 0, 6220]), (139, 0, .iconst 1, 1, 0, 0, []), (140, 0, .iadd, 1, 0, 0, []), (141, 0, .putfield 486, 3, 8, 31, [0, 0, 6220]), (144, 0, .aload_n 0, 1, 0, 0, []), (145, 0, .getfield 486, 3, 8, 31, [0, 0, 6220]), (148, 0, .ireturn, 1, 0, 0, [])]
def m_Model_give : List aT := [(0, [(0, 2), (1, 1)], []), (12, [(0, 2), (1, 1)], [0]), (45, [(0, 2), (1, 1), (3, 0)], []), (49, [(0, 2), (1, 1), (3, 0)], []), (50, [(0, 2), (1, 1), (3, 0)], [0]), (78, [(0, 2), (1, 1), (5, 0), (6, 0)], [])]
def B_Model_give_0 (X : Nat → List Int → AMem → Prop) (Q : Int → AMem → Prop) (x1 : Int) (σ : AMem) : Prop :=
  T_Model_isTapeName [9790] σ (fun r1 σ2 => (if r1 = 0 then
  X 1 [9790, x1, 1] σ2
  else
  X 1 [9790, x1, 0] σ2))
def B_Model_give_1 (X : Nat → List Int → AMem → Prop) (Q : Int → AMem → Prop) (x1 s0 : Int) (σ : AMem) : Prop :=
  (if s0 = 0 then
  (if (σ 9790 31) = 16 then
    X 2 [9790, x1, s0] σ
    else
    T_Model_toldAt [9790, 9813, 9815, (σ 9790 31)] σ (fun r1 σ2 => (if r1 < 0 then
      X 3 [9790, x1, s0] σ2
      else
      X 2 [9790, x1, s0] σ2)))
  else
  X 3 [9790, x1, s0] σ)
def B_Model_give_2 (X : Nat → List Int → AMem → Prop) (Q : Int → AMem → Prop) (x1 x3 : Int) (σ : AMem) : Prop :=
  X 4 [9790, x1, x3, 1] σ
def B_Model_give_3 (X : Nat → List Int → AMem → Prop) (Q : Int → AMem → Prop) (x1 x3 : Int) (σ : AMem) : Prop :=
  X 4 [9790, x1, x3, 0] σ
def B_Model_give_4 (X : Nat → List Int → AMem → Prop) (Q : Int → AMem → Prop) (x1 x3 s0 : Int) (σ : AMem) : Prop :=
  am_let (am_upd σ 9790 2 0) (fun σ1 => T_Model_throwing [9790, x3, s0] σ1 (fun r2 σ3 => (if r2 = 0 then
  X 5 [9790, x1, (σ 9790 2), 0] σ3
  else
  Q 0 σ3)))
def B_Model_give_5 (X : Nat → List Int → AMem → Prop) (Q : Int → AMem → Prop) (x1 x5 x6 : Int) (σ : AMem) : Prop :=
  (if x6 < x5 then
  am_r32 (20 * (σ 9790 31)) ∧ am_r32 ((20 * (σ 9790 31)) + x6) ∧ 0 ≤ x6 ∧ x6 < 8192 ∧ 0 ≤ ((20 * (σ 9790 31)) + x6) ∧ ((20 * (σ 9790 31)) + x6) < 320 ∧ am_let (am_upd σ 9813 ((20 * (σ 9790 31)) + x6) (w8 (σ 9791 x6))) (fun σ4 => am_r32 (x6 + 1) ∧ X 5 [9790, x1, x5, (x6 + 1)] σ4)
  else
  0 ≤ (σ 9790 31) ∧ (σ 9790 31) < 16 ∧ am_let (am_upd σ 9815 (σ 9790 31) x5) (fun σ1 => 0 ≤ (σ1 9790 31) ∧ (σ1 9790 31) < 16 ∧ am_let (am_upd σ1 9817 (σ1 9790 31) x1) (fun σ2 => am_r32 ((σ2 9790 31) + 1) ∧ am_let (am_upd σ2 9790 31 ((σ2 9790 31) + 1)) (fun σ3 => Q (σ3 9790 31) σ3))))
def B_Model_give : (Nat → List Int → AMem → Prop) → (Int → AMem → Prop) → Nat → List Int → AMem → Prop := fun X Q j v σ => am_sel [(am_v2 (fun t x1 σ => if t = 9790 then B_Model_give_0 X Q x1 σ else False)), (am_v3 (fun t x1 s0 σ => if t = 9790 then B_Model_give_1 X Q x1 s0 σ else False)), (am_v3 (fun t x1 x3 σ => if t = 9790 then B_Model_give_2 X Q x1 x3 σ else False)), (am_v3 (fun t x1 x3 σ => if t = 9790 then B_Model_give_3 X Q x1 x3 σ else False)), (am_v4 (fun t x1 x3 s0 σ => if t = 9790 then B_Model_give_4 X Q x1 x3 s0 σ else False)), (am_v4 (fun t x1 x5 x6 σ => if t = 9790 then B_Model_give_5 X Q x1 x5 x6 σ else False))] j v σ
def T_Model_give : List Int → AMem → (Int → AMem → Prop) → Prop := am_T B_Model_give
abbrev y_Model_give : MethodName := ⟨"LinkHouseModel", "give", "(J)I"⟩
def a_Model_give : AC := (226, (y_Model_give, prog_10_method_57_code, 7, (Option.some Jvm.ClassFile.FieldType.int)), [2, 1], 0, false, { frames := 1, cells := 0, slots := 0, locals := 34 }, T_Model_give)
set_option maxRecDepth 100000 in
theorem ms_Model_give : am_MSp a_Model_give := am_ms_v 9059 9 9057 9058 8 rfl (by decide +kernel)
abbrev k_Model_give : List AC := [a_Model_isTapeName, a_Model_toldAt, a_Model_throwing]
set_option maxRecDepth 100000 in
theorem s_Model_give : (am_chkR { frames := 1, cells := 0, slots := 0, locals := 34 } k_Model_give && am_chkN c_Model_give { frames := 1, cells := 0, slots := 0, locals := 34 } && c_Model_give.all (am_chk "LinkHouseModel" prog_10_method_57_code 7 (Option.some Jvm.ClassFile.FieldType.int) k_Model_give) && c_Model_give.all (am_chkL m_Model_give) && decide (m_Model_give[0]? = some (0, am_argp 0 [2, 1], [])) && decide (am_argn [2, 1] ≤ 7)) = true := by decide +kernel
set_option maxHeartbeats 150000 in
set_option maxRecDepth 100000 in
theorem h_Model_give : ∀ X Q j v σ, B_Model_give X Q j v σ → am_at GR k_Model_give c_Model_give m_Model_give X Q 85 j v σ := fun X Q => am_sel_all (P := fun j v σ => am_at GR k_Model_give c_Model_give m_Model_give X Q 85 j v σ) (⟨(am_v2_of (fun t x1 σ h => am_tk (fun e => by subst e; exact fun h => h) h)), ⟨(am_v3_of (fun t x1 s0 σ h => am_tk (fun e => by subst e; exact fun h => h) h)), ⟨(am_v3_of (fun t x1 x3 σ h => am_tk (fun e => by subst e; exact fun h => h) h)), ⟨(am_v3_of (fun t x1 x3 σ h => am_tk (fun e => by subst e; exact fun h => h) h)), ⟨(am_v4_of (fun t x1 x3 s0 σ h => am_tk (fun e => by subst e; exact fun h => h) h)), ⟨(am_v4_of (fun t x1 x5 x6 σ h => am_tk (fun e => by subst e; exact fun h => h) h)), trivial⟩⟩⟩⟩⟩⟩)
set_option maxRecDepth 100000 in
theorem S_Model_give (l : Launch) (w : AW) : am_S l w GR a_Model_give := am_sound (rt := 0) (cal := k_Model_give) 226 y_Model_give prog_10_method_57_code 7 (Option.some Jvm.ClassFile.FieldType.int) [2, 1] false { frames := 1, cells := 0, slots := 0, locals := 34 } B_Model_give "LinkHouseModel" c_Model_give m_Model_give 85 ms_Model_give (by decide +kernel) rfl rfl (am_cal (S_Model_isTapeName l w) (am_cal (S_Model_toldAt l w) (am_cal (S_Model_throwing l w) (fun _ h => absurd h List.not_mem_nil)))) s_Model_give h_Model_give
set_option maxRecDepth 100000 in
theorem of_Model_give {Q : Int → AMem → Prop} {x1 : Int} {σ : AMem} (h : ∀ X : Nat → List Int → AMem → Prop, (∀ (x1 : Int) (σ : AMem), B_Model_give_0 X Q x1 σ → X 0 [9790, x1] σ) → (∀ (x1 s0 : Int) (σ : AMem), B_Model_give_1 X Q x1 s0 σ → X 1 [9790, x1, s0] σ) → (∀ (x1 x3 : Int) (σ : AMem), B_Model_give_2 X Q x1 x3 σ → X 2 [9790, x1, x3] σ) → (∀ (x1 x3 : Int) (σ : AMem), B_Model_give_3 X Q x1 x3 σ → X 3 [9790, x1, x3] σ) → (∀ (x1 x3 s0 : Int) (σ : AMem), B_Model_give_4 X Q x1 x3 s0 σ → X 4 [9790, x1, x3, s0] σ) → (∀ (x1 x5 x6 : Int) (σ : AMem), B_Model_give_5 X Q x1 x5 x6 σ → X 5 [9790, x1, x5, x6] σ) → X 0 [9790, x1] σ) : T_Model_give [9790, x1] σ Q := fun X hX => h X (fun x1 σ h => hX 0 [9790, x1] σ h) (fun x1 s0 σ h => hX 1 [9790, x1, s0] σ h) (fun x1 x3 σ h => hX 2 [9790, x1, x3] σ h) (fun x1 x3 σ h => hX 3 [9790, x1, x3] σ h) (fun x1 x3 s0 σ h => hX 4 [9790, x1, x3, s0] σ h) (fun x1 x5 x6 σ h => hX 5 [9790, x1, x5, x6] σ h)
