/-! methods: printed by gen/all.py -/
def c_Model_rowError : List aE := [(0, 1, .aload_n 0, 1, 0, 0, []), (1, 0, .iload_n 1, 1, 0, 0, []), (2, 0, .bipush 8, 2, 0, 0, []), (4, 0, .iadd, 1, 0, 0, []), (5, 0, .bipush 8, 2, 0, 0, []), (7, 0, .invokevirtual 919, 3, 331, 8, [11029]), (10, 0, .lstore_n 2, 1, 0, 0, []), (11, 0, .aload_n 0, 1, 0, 0, []), (12, 0, .iload_n 1, 1, 0, 0, []), (13, 0, .bipush 16, 2, 0, 0, []), (15, 0, .iadd, 1, 0, 0, []), (16, 0, .bipush 8, 2, 0, 0, []), (18, 0, .invokevirtual 919, 3, 331, 8, [11029]), (21, 0, .lstore 4, 2, 0, 0, []), (23, 0, .aload_n 0, 1, 0, 0, []), (24, 0, .iload_n 1, 1, 0, 0, []), (25, 0, .bipush 32, 2, 0, 0, []), (27, 0, .iadd, 1, 0, 0, []), (28, 0, .bipush 8, 2, 0, 0, []), (30, 0, .invokevirtual 919, 3, 331, 8, [11029]), (33, 0, .lstore 6, 2, 0, 0, []), (35, 0, .aload_n 0, 1, 0, 0, []), (36, 0, .iload_n 1, 1, 0, 0, []), (37, 0, .bipush 40, 2, 0, 0, []), (39, 0, .iadd, 1, 0, 0, []), (40, 0, .bipush 8, 2, 0, 0, []), (42, 0, .invokevirtual 919, 3, 331, 8, [11029]), (45, 0, .lstore 8, 2, 0, 0, []), (47, 0, .aload_n 0, 1, 0, 0, []), (48, 0, .iload_n 1, 1, 0, 0, []), (49, 0, .bipush 48, 2, 0, 0, []), (51, 0, .iadd, 1, 0, 0, []), (52, 0, .bipush 8, 2, 0, 0, []), (54, 0, .invokevirtual 919, 3, 331, 8, [11029]), (57, 0, .lstore 10, 2, 0, 0, []), (59, 0, .lload_n 2, 1, 0, 0, []), (60, 0, .lload 6, 2, 0, 0, []), (62, 0, .aload_n 0, 1, 0, 0, []), (63, 0, .getfield 916, 3, 8, 101, [0, 0, 7050]), (66, 0, .i2l, 1, 0, 0, []), (67, 0, .invokestatic 343, 3, 186, 0, [8140]), (70, 0, .ifCond .ne 5, 3, 0, 0, []), (73, 0, .iconst 3, 1, 0, 0, []), (74, 0, .ireturn, 1, 0, 0, []), (75, 0, .lload 10, 2, 0, 0, []), (77, 0, .lload 10, 2, 0, 0, []), (79, 0, .lconst 1, 1, 0, 0, []), (80, 0, .lsub, 1, 0, 0, []), (81, 0, .land, 1, 0, 0, []), (82, 0, .lconst 0, 1, 0, 0, []), (83, 0, .lcmp, 1, 0, 0, []), (84, 0, .ifCond .ne 7, 3, 0, 0, []), (87, 0, .iconst 1, 1, 0, 0, []), (88, 0, .goto 4, 3, 0, 0, []), (91, 0, .iconst 0, 1, 0, 0, []), (92, 2, .istore 12, 2, 0, 0, []), (94, 0, .lload 8, 2, 0, 0, []), (96, 0, .lload 6, 2, 0, 0, []), (98, 0, .lcmp, 1, 0, 0, []), (99, 0, .ifCond .lt 33, 3, 0, 0, []), (102, 0, .lload 8, 2, 0, 0, []), (104, 0, .ldc2_w 707, 3, 65536, 0, [10048]), (107, 0, .lcmp, 1, 0, 0, []), (108, 0, .ifCond .gt 24, 3, 0, 0, []), (111, 0, .lload 4, 2, 0, 0, []), (113, 0, .lconst 0, 1, 0, 0, []), (114, 0, .lcmp, 1, 0, 0, []), (115, 0, .ifCond .lt 17, 3, 0, 0, []), (118, 0, .lload 4, 2, 0, 0, []), (120, 0, .ldc2_w 922, 3, 140737488355328, 0, [11037]), (123, 0, .lcmp, 1, 0, 0, []), (124, 0, .ifCond .gt 8, 3, 0, 0, []), (127, 0, .iload 12, 2, 0, 0, []), (129, 0, .ifCond .ne 5, 3, 0, 0, []), (132, 0, .iconst 4, 1, 0, 0, []), (133, 0, .ireturn, 1, 0, 0, []), (134, 0, .lload 10, 2, 0, 0, []), (136, 0, .lconst 0, 1, 0, 0, []), (137, 0, .lcmp, 1, 0, 0, []), (138, 0, .ifCond .eq 19, 3, 0, 0, []), (141, 0, .lload 4, 2, 0, 0, []), (143, 0, .lload_n 2, 1, 0, 0, []), (144, 0, .lsub, 1, 0, 0, []), (145, 0, .lload 10, 2, 0, 0, []), (147, 0, .lconst 1, 1, 0, 0, []), (148, 0, .lsub, 1, 0, 0, []), (149, 0, .land, 1, 0, 0, []), (150, 0, .lconst 0, 1, 0, 0, []), (151, 0, .lcmp, 1, 0, 0, []), (152, 0, .ifCond .eq 5, 3, 0, 0, []), (155, 0, .iconst 4, 1, 0, 0, []), (156, 0, .ireturn, 1, 0, 0, []), (157, 3, .aload_n 0, 1, 0, 0, []), (158, 0, .getfield 924, 3, 8, 115, [0, 0, 7064]), (161, 0, .ifCond .le 34, 3, 0, 0, []), (164, 0, .lload 4, 2, 0, 0, []), (166, 0, .aload_n 0, 1, 0, 0, []), (167, 0, .getfield 245, 3, 8, 112, [2, 0, 7061]), (170, 0, .aload_n 0, 1, 0, 0, []), (171, 0, .getfield 924, 3, 8, 115, [0, 0, 7064]), (174, 0, .iconst 1, 1, 0, 0, []), (175, 0, .isub, 1, 0, 0, []), (176, 0, .laload, 1, 0, 0, []), (177, 0, .aload_n 0, 1, 0, 0, []), (178, 0, .getfield 251, 3, 8, 114, [2, 0, 7063]), (181, 0, .aload_n 0, 1, 0, 0, []), (182, 0, .getfield 924, 3, 8, 115, [0, 0, 7064]), (185, 0, .iconst 1, 1, 0, 0, []), (186, 0, .isub, 1, 0, 0, []), (187, 0, .laload, 1, 0, 0, []), (188, 0, .ladd, 1, 0, 0, []), (189, 0, .lcmp, 1, 0, 0, []), (190, 0, .ifCond .ge 5, 3, 0, 0, []), (193, 0, .iconst 5, 1, 0, 0, []), (194, 0, .ireturn, 1, 0, 0, []), (195, 4, .aload_n 0, 1, 0, 0, []), (196, 0, .getfield 239, 3, 8, 110, [2, 0, 7059]), (199, 0, .aload_n 0, 1, 0, 0, []), (200, 0, .getfield 924, 3, 8, 115, [0, 0, 7064]), (203, 0, .aload_n 0, 1, 0, 0, []), (204, 0, .iload_n 1, 1, 0, 0, []), (205, 0, .iconst 4, 1, 0, 0, []), (206, 0, .iadd, 1, 0, 0, []), (207, 0, .iconst 4, 1, 0, 0, []), (208, 0, .invokevirtual 919, 3, 331, 8, [11029]), (211, 0, .lastore, 1, 0, 0, []), (212, 0, .aload_n 0, 1, 0, 0, []), (213, 0, .getfield 242, 3, 8, 111, [2, 0, 7060]), (216, 0, .aload_n 0, 1, 0, 0, []), (217, 0, .getfield 924, 3, 8, 115, [0, 0, 7064]), (220, 0, .lload_n 2, 1, 0, 0, []), (221, 0, .lastore, 1, 0, 0, []), (222, 0, .aload_n 0, 1, 0, 0, []), (223, 0, .getfield 245, 3, 8, 112, [2, 0, 7061]), (226, 0, .aload_n 0, 1, 0, 0, []), (227, 0, .getfield 924, 3, 8, 115, [0, 0, 7064]), (230, 0, .lload 4, 2, 0, 0, []), (232, 0, .lastore, 1, 0, 0, []), (233, 0, .aload_n 0, 1, 0, 0, []), (234, 0, .getfield 248, 3, 8, 113, [2, 0, 7062]), (237, 0, .aload_n 0, 1, 0, 0, []), (238, 0, .getfield 924, 3, 8, 115, [0, 0, 7064]), (241, 0, .lload 6, 2, 0, 0, []), (243, 0, .lastore, 1, 0, 0, []), (244, 0, .aload_n 0, 1, 0, 0, []), (245, 0, .getfield 251, 3, 8, 114, [2, 0, 7063]), (248, 0, .aload_n 0, 1, 0, 0, []), (249, 0, .getfield 924, 3, 8, 115, [0, 0, 7064]), (252, 0, .lload 8, 2, 0, 0, []), (254, 0, .lastore, 1, 0, 0, []), (255, 0, .aload_n 0, 1, 0, 0, []), (256, 0, .dup, 1, 0, 0, []), (257, 0, .getfield 924, 3, 8, 115, [0, 0, 7064]), (260, 0, .iconst 1, 1, 0, 0, []), (261, 0, .iadd, 1, 0, 0, []), (262, 0, .putfield 924, 3, 8, 115, [0, 0, 7064]), (265, 0, .iconst 0, 1, 0, 0, []), (266, 0, .ireturn, 1, 0, 0, [])]
def m_Model_rowError : List aT := [(0, [(0, 2), (1, 0)], []), (92, [(0, 2), (1, 0), (2, 1), (4, 1), (6, 1), (8, 1), (10, 1)], [0]), (157, [(0, 2), (1, 0), (2, 1), (4, 1), (6, 1), (8, 1)], []), (195, [(0, 2), (1, 0), (2, 1), (4, 1), (6, 1), (8, 1)], [])]
def B_Model_rowError_0 (X : Nat → List Int → AMem → Prop) (Q : Int → AMem → Prop) (x1 : Int) (σ : AMem) : Prop :=
  am_r32 (x1 + 8) ∧ T_Model_triedNum [9790, (x1 + 8), 8] σ (fun r1 σ2 => am_r32 (x1 + 16) ∧ T_Model_triedNum [9790, (x1 + 16), 8] σ2 (fun r3 σ4 => am_r32 (x1 + 32) ∧ T_Model_triedNum [9790, (x1 + 32), 8] σ4 (fun r5 σ6 => am_r32 (x1 + 40) ∧ T_Model_triedNum [9790, (x1 + 40), 8] σ6 (fun r7 σ8 => am_r32 (x1 + 48) ∧ T_Model_triedNum [9790, (x1 + 48), 8] σ8 (fun r9 σ10 => T_Model_lies [r1, r5, (σ10 9790 101)] σ10 (fun r11 σ12 => (if r11 = 0 then
  Q 3 σ12
  else
  (if (l_and r9 (w64 (r9 - 1))) = 0 then
    X 1 [9790, x1, r1, r3, r5, r7, r9, 1] σ12
    else
    X 1 [9790, x1, r1, r3, r5, r7, r9, 0] σ12))))))))
def B_Model_rowError_1 (X : Nat → List Int → AMem → Prop) (Q : Int → AMem → Prop) (x1 x2 x4 x6 x8 x10 s0 : Int) (σ : AMem) : Prop :=
  (if x8 < x6 then
  Q 4 σ
  else
  (if 65536 < x8 then
    Q 4 σ
    else
    (if x4 < 0 then
      Q 4 σ
      else
      (if 140737488355328 < x4 then
        Q 4 σ
        else
        (if s0 = 0 then
          Q 4 σ
          else
          (if x10 = 0 then
            X 2 [9790, x1, x2, x4, x6, x8] σ
            else
            (if (l_and (w64 (x4 - x2)) (w64 (x10 - 1))) = 0 then
              X 2 [9790, x1, x2, x4, x6, x8] σ
              else
              Q 4 σ)))))))
def B_Model_rowError_2 (X : Nat → List Int → AMem → Prop) (Q : Int → AMem → Prop) (x1 x2 x4 x6 x8 : Int) (σ : AMem) : Prop :=
  (if 0 < (σ 9790 115) then
  am_r32 ((σ 9790 115) - 1) ∧ 0 ≤ ((σ 9790 115) - 1) ∧ ((σ 9790 115) - 1) < 8 ∧ am_r32 ((σ 9790 115) - 1) ∧ 0 ≤ ((σ 9790 115) - 1) ∧ ((σ 9790 115) - 1) < 8 ∧ (if x4 < (w64 ((σ 9866 ((σ 9790 115) - 1)) + (σ 9868 ((σ 9790 115) - 1)))) then
    Q 5 σ
    else
    X 3 [9790, x1, x2, x4, x6, x8] σ)
  else
  X 3 [9790, x1, x2, x4, x6, x8] σ)
def B_Model_rowError_3 (X : Nat → List Int → AMem → Prop) (Q : Int → AMem → Prop) (x1 x2 x4 x6 x8 : Int) (σ : AMem) : Prop :=
  am_r32 (x1 + 4) ∧ T_Model_triedNum [9790, (x1 + 4), 4] σ (fun r1 σ2 => 0 ≤ (σ 9790 115) ∧ (σ 9790 115) < 8 ∧ am_let (am_upd σ2 9864 (σ 9790 115) r1) (fun σ3 => 0 ≤ (σ3 9790 115) ∧ (σ3 9790 115) < 8 ∧ am_let (am_upd σ3 9865 (σ3 9790 115) x2) (fun σ4 => 0 ≤ (σ4 9790 115) ∧ (σ4 9790 115) < 8 ∧ am_let (am_upd σ4 9866 (σ4 9790 115) x4) (fun σ5 => 0 ≤ (σ5 9790 115) ∧ (σ5 9790 115) < 8 ∧ am_let (am_upd σ5 9867 (σ5 9790 115) x6) (fun σ6 => 0 ≤ (σ6 9790 115) ∧ (σ6 9790 115) < 8 ∧ am_let (am_upd σ6 9868 (σ6 9790 115) x8) (fun σ7 => am_r32 ((σ7 9790 115) + 1) ∧ am_let (am_upd σ7 9790 115 ((σ7 9790 115) + 1)) (fun σ8 => Q 0 σ8)))))))
def B_Model_rowError : (Nat → List Int → AMem → Prop) → (Int → AMem → Prop) → Nat → List Int → AMem → Prop := fun X Q j v σ => am_sel [(am_v2 (fun t x1 σ => if t = 9790 then B_Model_rowError_0 X Q x1 σ else False)), (am_v8 (fun t x1 x2 x4 x6 x8 x10 s0 σ => if t = 9790 then B_Model_rowError_1 X Q x1 x2 x4 x6 x8 x10 s0 σ else False)), (am_v6 (fun t x1 x2 x4 x6 x8 σ => if t = 9790 then B_Model_rowError_2 X Q x1 x2 x4 x6 x8 σ else False)), (am_v6 (fun t x1 x2 x4 x6 x8 σ => if t = 9790 then B_Model_rowError_3 X Q x1 x2 x4 x6 x8 σ else False))] j v σ
def T_Model_rowError : List Int → AMem → (Int → AMem → Prop) → Prop := am_T B_Model_rowError
abbrev y_Model_rowError : MethodName := ⟨"LinkHouseModel", "rowError", "(I)I"⟩
def a_Model_rowError : AC := (333, (y_Model_rowError, prog_10_method_155_code, 13, (Option.some Jvm.ClassFile.FieldType.int)), [2, 0], 0, false, { frames := 1, cells := 0, slots := 0, locals := 33 }, T_Model_rowError)
set_option maxRecDepth 100000 in
theorem ms_Model_rowError : am_MSp a_Model_rowError := am_ms_v 11036 9 11035 113015 8 rfl (by decide +kernel)
abbrev k_Model_rowError : List AC := [a_Model_triedNum, a_Model_lies]
set_option maxRecDepth 100000 in
theorem s_Model_rowError : (am_chkR { frames := 1, cells := 0, slots := 0, locals := 33 } k_Model_rowError && am_chkN c_Model_rowError { frames := 1, cells := 0, slots := 0, locals := 33 } && c_Model_rowError.all (am_chk "LinkHouseModel" prog_10_method_155_code 13 (Option.some Jvm.ClassFile.FieldType.int) k_Model_rowError) && c_Model_rowError.all (am_chkL m_Model_rowError) && decide (m_Model_rowError[0]? = some (0, am_argp 0 [2, 0], [])) && decide (am_argn [2, 0] ≤ 13)) = true := by decide +kernel
set_option maxHeartbeats 150000 in
set_option maxRecDepth 100000 in
theorem h_Model_rowError : ∀ X Q j v σ, B_Model_rowError X Q j v σ → am_at GR k_Model_rowError c_Model_rowError m_Model_rowError X Q 163 j v σ := fun X Q => am_sel_all (P := fun j v σ => am_at GR k_Model_rowError c_Model_rowError m_Model_rowError X Q 163 j v σ) (⟨(am_v2_of (fun t x1 σ h => am_tk (fun e => by subst e; exact fun h => h) h)), ⟨(am_v8_of (fun t x1 x2 x4 x6 x8 x10 s0 σ h => am_tk (fun e => by subst e; exact fun h => h) h)), ⟨(am_v6_of (fun t x1 x2 x4 x6 x8 σ h => am_tk (fun e => by subst e; exact fun h => h) h)), ⟨(am_v6_of (fun t x1 x2 x4 x6 x8 σ h => am_tk (fun e => by subst e; exact fun h => h) h)), trivial⟩⟩⟩⟩)
set_option maxRecDepth 100000 in
theorem S_Model_rowError (l : Launch) (w : AW) : am_S l w GR a_Model_rowError := am_sound (rt := 0) (cal := k_Model_rowError) 333 y_Model_rowError prog_10_method_155_code 13 (Option.some Jvm.ClassFile.FieldType.int) [2, 0] false { frames := 1, cells := 0, slots := 0, locals := 33 } B_Model_rowError "LinkHouseModel" c_Model_rowError m_Model_rowError 163 ms_Model_rowError (by decide +kernel) rfl rfl (am_cal (S_Model_triedNum l w) (am_cal (S_Model_lies l w) (fun _ h => absurd h List.not_mem_nil))) s_Model_rowError h_Model_rowError
set_option maxRecDepth 100000 in
theorem of_Model_rowError {Q : Int → AMem → Prop} {x1 : Int} {σ : AMem} (h : ∀ X : Nat → List Int → AMem → Prop, (∀ (x1 : Int) (σ : AMem), B_Model_rowError_0 X Q x1 σ → X 0 [9790, x1] σ) → (∀ (x1 x2 x4 x6 x8 x10 s0 : Int) (σ : AMem), B_Model_rowError_1 X Q x1 x2 x4 x6 x8 x10 s0 σ → X 1 [9790, x1, x2, x4, x6, x8, x10, s0] σ) → (∀ (x1 x2 x4 x6 x8 : Int) (σ : AMem), B_Model_rowError_2 X Q x1 x2 x4 x6 x8 σ → X 2 [9790, x1, x2, x4, x6, x8] σ) → (∀ (x1 x2 x4 x6 x8 : Int) (σ : AMem), B_Model_rowError_3 X Q x1 x2 x4 x6 x8 σ → X 3 [9790, x1, x2, x4, x6, x8] σ) → X 0 [9790, x1] σ) : T_Model_rowError [9790, x1] σ Q := fun X hX => h X (fun x1 σ h => hX 0 [9790, x1] σ h) (fun x1 x2 x4 x6 x8 x10 s0 σ h => hX 1 [9790, x1, x2, x4, x6, x8, x10, s0] σ h) (fun x1 x2 x4 x6 x8 σ h => hX 2 [9790, x1, x2, x4, x6, x8] σ h) (fun x1 x2 x4 x6 x8 σ h => hX 3 [9790, x1, x2, x4, x6, x8] σ h)
def c_Model_triedError : List aE := [(0, 1, .aload_n 0, 1, 0, 0, []), (1, 0, .iconst 0, 1, 0, 0, []), (2, 0, .putfield 924, 3, 8, 115, [0, 0, 7064]), (5, 0, .aload_n 0, 1, 0, 0, []), (6, 0, .invokevirtual 927, 3, 332, 8, [11025]), (9, 0, .ifCond .ne 5, 3, 0, 0, []), (12, 0, .iconst 1, 1, 0, 0, []), (13, 0, .ireturn, 1, 0, 0, []), (14, 0, .aload_n 0, 1, 0, 0, []), (15, 0, .bipush 56, 2, 0, 0, []), (17, 0, .iconst 2, 1, 0, 0, []), (18, 0, .invokevirtual 919, 3, 331, 8, [11029]), (21, 0, .l2i, 1, 0, 0, []), (22, 0, .istore_n 1, 1, 0, 0, []), (23, 0, .aload_n 0, 1, 0, 0, []), (24, 0, .bipush 32, 2, 0, 0, []), (26, 0, .bipush 8, 2, 0, 0, []), (28, 0, .invokevirtual 919, 3, 331, 8, [11029]), (31, 0, .lstore_n 2, 1, 0, 0, []), (32, 0, .iload_n 1, 1, 0, 0, []), (33, 0, .bipush 8, 2, 0, 0, []), (35, 0, .if_icmp .gt 21, 3, 0, 0, []), (38, 0, .lload_n 2, 1, 0, 0, []), (39, 0, .ldc2_w 699, 3, 56, 0, [10021]), (42, 0, .iload_n 1, 1, 0, 0, []), (43, 0, .i2l, 1, 0, 0, []), (44, 0, .lmul, 1, 0, 0, []), (45, 0, .aload_n 0, 1, 0, 0, []), (46, 0, .getfield 916, 3, 8, 101, [0, 0, 7050]), (49, 0, .i2l, 1, 0, 0, []), (50, 0, .invokestatic 343, 3, 186, 0, [8140]), (53, 0, .ifCond .ne 5, 3, 0, 0, []), (56, 0, .iconst 2, 1, 0, 0, []), (57, 0, .ireturn, 1, 0, 0, []), (58, 0, .iconst 0, 1, 0, 0, []), (59, 0, .istore 4, 2, 0, 0, []), (61, 2, .iload 4, 2, 0, 0, []), (63, 0, .iload_n 1, 1, 0, 0, []), (64, 0, .if_icmp .ge 51, 3, 0, 0, []), (67, 0, .lload_n 2, 1, 0, 0, []), (68, 0, .l2i, 1, 0, 0, []), (69, 0, .bipush 56, 2, 0, 0, []), (71, 0, .iload 4, 2, 0, 0, []), (73, 0, .imul, 1, 0, 0, []), (74, 0, .iadd, 1, 0, 0, []), (75, 0, .istore 5, 2, 0, 0, []), (77, 0, .aload_n 0, 1, 0, 0, []), (78, 0, .iload 5, 2, 0, 0, []), (80, 0, .iconst 4, 1, 0, 0, []), (81, 0, .invokevirtual 919, 3, 331, 8, [11029]), (84, 0, .lconst 1, 1, 0, 0, []), (85, 0, .lcmp, 1, 0, 0, []), (86, 0, .ifCond .ne 12, 3, 0, 0, []), (89, 0, .aload_n 0, 1, 0, 0, []), (90, 0, .iload 5, 2, 0, 0, []), (92, 0, .invokevirtual 930, 3, 333, 8, [11033]), (95, 0, .goto 4, 3, 0, 0, []), (98, 0, .iconst 0, 1, 0, 0, []), (99, 3, .istore 6, 2, 0, 0, []), (101, 0, .iload 6, 2, 0, 0, []), (103, 0, .ifCond .le 6, 3, 0, 0, []), (106, 0, .iload 6, 2, 0, 0, []), (108, 0, .ireturn, 1, 0, 0, []), (109, 0, .iinc 4 1, 3, 0, 0, []), (112, 0, .goto (-51), 3, 0, 0, []), (115, 0, .aload_n 0, 1, 0, 0, []), (116, 0, .bipush 24, 2, 0, 0, []), (118, 0, .bipush 8, 2, 0, 0, []), (120, 0, .invokevirtual 919, 3, 331, 8, [11029]), (123, 0, .lstore 4, 2, 0, 0, []), (125, 0, .iconst 0, 1, 0, 0, []), (126, 0, .istore 6, 2, 0, 0, []), (128, 4, .iload 6, 2, 0, 0, []), (130, 0, .aload_n 0, 1, 0, 0, []), (131, 0, .getfield 924, 3, 8, 115, [0, 0, 7064]), (134, 0, .if_icmp .ge 59, 3, 0, 0, []), (137, 0, .aload_n 0, 1, 0, 0, []), (138, 0, .getfield 239, 3, 8, 110, [2, 0, 7059]), (141, 0, .iload 6, 2, 0, 0, []), (143, 0, .laload, 1, 0, 0, []), (144, 0, .lconst 1, 1, 0, 0, []), (145, 0, .land, 1, 0, 0, []), (146, 0, .lconst 1, 1, 0, 0, []), (147, 0, .lcmp, 1, 0, 0, []), (148, 0, .ifCond .ne 39, 3, 0, 0, []), (151, 0, .lload 4, 2, 0, 0, []), (153, 0, .aload_n 0, 1, 0, 0, []), (154, 0, .getfield 245, 3, 8, 112, [2, 0, 7061]), (157, 0, .iload 6, 2, 0, 0, []), (159, 0, .laload, 1, 0, 0, []), (160, 0, .lcmp, 1, 0, 0, []), (161, 0, .ifCond .lt 26, 3, 0, 0, []), (164, 0, .lload 4, 2, 0, 0, []), (166, 0, .aload_n 0, 1, 0, 0, []), (167, 0, .getfield 245, 3, 8, 112, [2, 0, 7061]), (170, 0, .iload 6, 2, 0, 0, []), (172, 0, .laload, 1, 0, 0, []), (173, 0, .aload_n 0, 1, 0, 0, []), (174, 0, .getfield 251, 3, 8, 114, [2, 0, 7063]), (177, 0, .iload 6, 2, 0, 0, []), (179, 0, .laload, 1, 0, 0, []), (180, 0, .ladd, 1, 0, 0, []), (181, 0, .lcmp, 1, 0, 0, []), (182, 0, .ifCond .ge 5, 3, 0, 0, []), (185, 0, .iconst 0, 1, 0, 0, []), (186, 0, .ireturn, 1, 0, 0, []), (187, 5, .iinc 6 1, 3, 0, 0, []), (190, 0, .goto (-62), 3, 0, 0, []), (193, 0, .bipush 6, 2, 0, 0, []), (195, 0, .ireturn, 1, 0, 0, [])]
def m_Model_triedError : List aT := [(0, [(0, 2)], []), (61, [(0, 2), (1, 0), (2, 1), (4, 0)], []), (99, [(0, 2), (1, 0), (2, 1), (4, 0)], [0]), (128, [(0, 2), (4, 1), (6, 0)], []), (187, [(0, 2), (4, 1), (6, 0)], [])]
def B_Model_triedError_0 (X : Nat → List Int → AMem → Prop) (Q : Int → AMem → Prop) (σ : AMem) : Prop :=
  am_let (am_upd σ 9790 115 0) (fun σ1 => T_Model_isExecutable [9790] σ1 (fun r2 σ3 => (if r2 = 0 then
  Q 1 σ3
  else
  T_Model_triedNum [9790, 56, 2] σ3 (fun r4 σ5 => T_Model_triedNum [9790, 32, 8] σ5 (fun r6 σ7 => (if 8 < (w32 r4) then
    Q 2 σ7
    else
    T_Model_lies [r6, (w64 (56 * (w32 r4))), (σ7 9790 101)] σ7 (fun r8 σ9 => (if r8 = 0 then
      Q 2 σ9
      else
      X 1 [9790, (w32 r4), r6, 0] σ9))))))))
def B_Model_triedError_1 (X : Nat → List Int → AMem → Prop) (Q : Int → AMem → Prop) (x1 x2 x4 : Int) (σ : AMem) : Prop :=
  (if x4 < x1 then
  am_r32 (56 * x4) ∧ am_r32 ((w32 x2) + (56 * x4)) ∧ T_Model_triedNum [9790, ((w32 x2) + (56 * x4)), 4] σ (fun r3 σ4 => (if r3 = 1 then
    T_Model_rowError [9790, ((w32 x2) + (56 * x4))] σ4 (fun r5 σ6 => X 2 [9790, x1, x2, x4, r5] σ6)
    else
    X 2 [9790, x1, x2, x4, 0] σ4))
  else
  T_Model_triedNum [9790, 24, 8] σ (fun r1 σ2 => X 3 [9790, r1, 0] σ2))
def B_Model_triedError_2 (X : Nat → List Int → AMem → Prop) (Q : Int → AMem → Prop) (x1 x2 x4 s0 : Int) (σ : AMem) : Prop :=
  (if 0 < s0 then
  Q s0 σ
  else
  am_r32 (x4 + 1) ∧ X 1 [9790, x1, x2, (x4 + 1)] σ)
def B_Model_triedError_3 (X : Nat → List Int → AMem → Prop) (Q : Int → AMem → Prop) (x4 x6 : Int) (σ : AMem) : Prop :=
  (if x6 < (σ 9790 115) then
  0 ≤ x6 ∧ x6 < 8 ∧ (if (l_and (σ 9864 x6) 1) = 1 then
    0 ≤ x6 ∧ x6 < 8 ∧ (if x4 < (σ 9866 x6) then
      X 4 [9790, x4, x6] σ
      else
      0 ≤ x6 ∧ x6 < 8 ∧ 0 ≤ x6 ∧ x6 < 8 ∧ (if x4 < (w64 ((σ 9866 x6) + (σ 9868 x6))) then
        Q 0 σ
        else
        X 4 [9790, x4, x6] σ))
    else
    X 4 [9790, x4, x6] σ)
  else
  Q 6 σ)
def B_Model_triedError_4 (X : Nat → List Int → AMem → Prop) (Q : Int → AMem → Prop) (x4 x6 : Int) (σ : AMem) : Prop :=
  am_r32 (x6 + 1) ∧ X 3 [9790, x4, (x6 + 1)] σ
def B_Model_triedError : (Nat → List Int → AMem → Prop) → (Int → AMem → Prop) → Nat → List Int → AMem → Prop := fun X Q j v σ => am_sel [(am_v1 (fun t σ => if t = 9790 then B_Model_triedError_0 X Q σ else False)), (am_v4 (fun t x1 x2 x4 σ => if t = 9790 then B_Model_triedError_1 X Q x1 x2 x4 σ else False)), (am_v5 (fun t x1 x2 x4 s0 σ => if t = 9790 then B_Model_triedError_2 X Q x1 x2 x4 s0 σ else False)), (am_v3 (fun t x4 x6 σ => if t = 9790 then B_Model_triedError_3 X Q x4 x6 σ else False)), (am_v3 (fun t x4 x6 σ => if t = 9790 then B_Model_triedError_4 X Q x4 x6 σ else False))] j v σ
def T_Model_triedError : List Int → AMem → (Int → AMem → Prop) → Prop := am_T B_Model_triedError
abbrev y_Model_triedError : MethodName := ⟨"LinkHouseModel", "triedError", "()I"⟩
def a_Model_triedError : AC := (334, (y_Model_triedError, prog_10_method_156_code, 7, (Option.some Jvm.ClassFile.FieldType.int)), [2], 0, false, { frames := 2, cells := 0, slots := 0, locals := 73 }, T_Model_triedError)
set_option maxRecDepth 100000 in
theorem ms_Model_triedError : am_MSp a_Model_triedError := am_ms_v 11024 9 11023 113012 8 rfl (by decide +kernel)
abbrev k_Model_triedError : List AC := [a_Model_isExecutable, a_Model_triedNum, a_Model_lies, a_Model_rowError]
set_option maxRecDepth 100000 in
theorem s_Model_triedError : (am_chkR { frames := 2, cells := 0, slots := 0, locals := 73 } k_Model_triedError && am_chkN c_Model_triedError { frames := 2, cells := 0, slots := 0, locals := 73 } && c_Model_triedError.all (am_chk "LinkHouseModel" prog_10_method_156_code 7 (Option.some Jvm.ClassFile.FieldType.int) k_Model_triedError) && c_Model_triedError.all (am_chkL m_Model_triedError) && decide (m_Model_triedError[0]? = some (0, am_argp 0 [2], [])) && decide (am_argn [2] ≤ 7)) = true := by decide +kernel
set_option maxHeartbeats 150000 in
set_option maxRecDepth 100000 in
theorem h_Model_triedError : ∀ X Q j v σ, B_Model_triedError X Q j v σ → am_at GR k_Model_triedError c_Model_triedError m_Model_triedError X Q 115 j v σ := fun X Q => am_sel_all (P := fun j v σ => am_at GR k_Model_triedError c_Model_triedError m_Model_triedError X Q 115 j v σ) (⟨(am_v1_of (fun t σ h => am_tk (fun e => by subst e; exact fun h => h) h)), ⟨(am_v4_of (fun t x1 x2 x4 σ h => am_tk (fun e => by subst e; exact fun h => h) h)), ⟨(am_v5_of (fun t x1 x2 x4 s0 σ h => am_tk (fun e => by subst e; exact fun h => h) h)), ⟨(am_v3_of (fun t x4 x6 σ h => am_tk (fun e => by subst e; exact fun h => h) h)), ⟨(am_v3_of (fun t x4 x6 σ h => am_tk (fun e => by subst e; exact fun h => h) h)), trivial⟩⟩⟩⟩⟩)
set_option maxRecDepth 100000 in
theorem S_Model_triedError (l : Launch) (w : AW) : am_S l w GR a_Model_triedError := am_sound (rt := 0) (cal := k_Model_triedError) 334 y_Model_triedError prog_10_method_156_code 7 (Option.some Jvm.ClassFile.FieldType.int) [2] false { frames := 2, cells := 0, slots := 0, locals := 73 } B_Model_triedError "LinkHouseModel" c_Model_triedError m_Model_triedError 115 ms_Model_triedError (by decide +kernel) rfl rfl (am_cal (S_Model_isExecutable l w) (am_cal (S_Model_triedNum l w) (am_cal (S_Model_lies l w) (am_cal (S_Model_rowError l w) (fun _ h => absurd h List.not_mem_nil))))) s_Model_triedError h_Model_triedError
set_option maxRecDepth 100000 in
theorem of_Model_triedError {Q : Int → AMem → Prop} {σ : AMem} (h : ∀ X : Nat → List Int → AMem → Prop, (∀ (σ : AMem), B_Model_triedError_0 X Q σ → X 0 [9790] σ) → (∀ (x1 x2 x4 : Int) (σ : AMem), B_Model_triedError_1 X Q x1 x2 x4 σ → X 1 [9790, x1, x2, x4] σ) → (∀ (x1 x2 x4 s0 : Int) (σ : AMem), B_Model_triedError_2 X Q x1 x2 x4 s0 σ → X 2 [9790, x1, x2, x4, s0] σ) → (∀ (x4 x6 : Int) (σ : AMem), B_Model_triedError_3 X Q x4 x6 σ → X 3 [9790, x4, x6] σ) → (∀ (x4 x6 : Int) (σ : AMem), B_Model_triedError_4 X Q x4 x6 σ → X 4 [9790, x4, x6] σ) → X 0 [9790] σ) : T_Model_triedError [9790] σ Q := fun X hX => h X (fun σ h => hX 0 [9790] σ h) (fun x1 x2 x4 σ h => hX 1 [9790, x1, x2, x4] σ h) (fun x1 x2 x4 s0 σ h => hX 2 [9790, x1, x2, x4, s0] σ h) (fun x4 x6 σ h => hX 3 [9790, x4, x6] σ h) (fun x4 x6 σ h => hX 4 [9790, x4, x6] σ h)
def c_Model_memorySymbol : List aE := [(0, 1, .aload_n 0, 1, 0, 0, []), (1, 0, .getfield 218, 3, 8, 99, [2, 0, 7048]), (4, 0, .iload_n 1, 1, 0, 0, []), (5, 0, .iconst 4, 1, 0, 0, []), (6, 0, .iadd, 1, 0, 0, []), (7, 0, .baload, 1, 2, 0, []), (8, 0, .iconst 4, 1, 0, 0, []), (9, 0, .ishr, 1, 0, 0, []), (10, 0, .bipush 15, 2, 0, 0, []), (12, 0, .iand, 1, 0, 0, []), (13, 0, .istore 6, 2, 0, 0, []), (15, 0, .aload_n 0, 1, 0, 0, []), (16, 0, .iload_n 1, 1, 0, 0, []), (17, 0, .iconst 4, 1, 0, 0, []), (18, 0, .invokevirtual 919, 3, 331, 8, [11029]), (21, 0, .lstore 7, 2, 0, 0, []), (23, 0, .iload 6, 2, 0, 0, []), (25, 0, .iconst 1, 1, 0, 0, []), (26, 0, .if_icmp .eq 9, 3, 0, 0, []), (29, 0, .iload 6, 2, 0, 0, []), (31, 0, .iconst 2, 1, 0, 0, []), (32, 0, .if_icmp .ne 17, 3, 0, 0, []), (35, 2, .aload_n 0, 1, 0, 0, []), (36, 0, .iload_n 1, 1, 0, 0, []), (37, 0, .bipush 6, 2, 0, 0, []), (39, 0, .iadd, 1, 0, 0, []), (40, 0, .iconst 2, 1, 0, 0, []), (41, 0, .invokevirtual 919, 3, 331, 8, [11029]), (44, 0, .lconst 0, 1, 0, 0, []), (45, 0, .lcmp, 1, 0, 0, []), (46, 0, .ifCond .ne 4, 3, 0, 0, []), (49, 0, .return_, 1, 0, 0, []), (50, 0, .iconst 0, 1, 0, 0, []), (51, 0, .istore 9, 2, 0, 0, []), (53, 3, .lload 7, 2, 0, 0, []), (55, 0, .iload 9, 2, 0, 0, []), (57, 0, .i2l, 1, 0, 0, []), (58, 0, .ladd, 1, 0, 0, []), (59, 0, .lload 4, 2, 0, 0, []), (61, 0, .lcmp, 1, 0, 0, []), (62, 0, .ifCond .ge 32, 3, 0, 0, []), (65, 0, .iload 9, 2, 0, 0, []), (67, 0, .bipush 20, 2, 0, 0, []), (69, 0, .if_icmp .gt 25, 3, 0, 0, []), (72, 0, .aload_n 0, 1, 0, 0, []), (73, 0, .getfield 218, 3, 8, 99, [2, 0, 7048]), (76, 0, .lload_n 2, 1, 0, 0, []), (77, 0, .lload 7, 2, 0, 0, []), (79, 0, .ladd, 1, 0, 0, []), (80, 0, .l2i, 1, 0, 0, []), (81, 0, .iload 9, 2, 0, 0, []), (83, 0, .iadd, 1, 0, 0, []), (84, 0, .baload, 1, 2, 0, []), (85, 0, .ifCond .eq 9, 3, 0, 0, []), (88, 0, .iinc 9 1, 3, 0, 0, []), (91, 0, .goto (-38), 3, 0, 0, []), (94, 4, .lload 7, 2, 0, 0, []), (96, 0, .iload 9, 2, 0, 0, []), (98, 0, .i2l, 1, 0, 0, []), (99, 0, .ladd, 1, 0, 0, []), (100, 0, .lload 4, 2, 0, 0, []), (102, 0, .lcmp, 1, 0, 0, []), (103, 0, .ifCond .ge 15, 3, 0, 0, []), (106, 0, .iload 9, 2, 0, 0, []), (108, 0, .ifCond .eq 10, 3, 0, 0, []), (111, 0, .iload 9, 2, 0, 0, []), (113, 0, .bipush 20, 2, 0, 0, []), (115, 0, .if_icmp .le 4, 3, 0, 0, []), (118, 0, .return_, 1, 0, 0, []), (119, 0, .aload_n 0, 1, 0, 0, []), (120, 0, .getfield 115, 3, 8, 45, [2, 0, 6234]), (123, 0, .aload_n 0, 1, 0, 0, []), (124, 0, .getfield 948, 3, 8, 44, [0, 0, 6233]), (127, 0, .lload_n 2, 1, 0, 0, []), (128, 0, .lload 7, 2, 0, 0, []), (130, 0, .ladd, 1, 0, 0, []), (131, 0, .l2i, 1, 0, 0, []), (132, 0, .iastore, 1, 0, 0, []), (133, 0, .aload_n 0, 1, 0, 0, []), (134, 0, .getfield 118, 3, 8, 46, [2, 0, 6235]), (137, 0, .aload_n 0, 1, 0, 0, []), (138, 0, .getfield 948, 3, 8, 44, [0, 0, 6233]), (141, 0, .iload 9, 2, 0, 0, []), (143, 0, .iastore, 1, 0, 0, []), (144, 0, .aload_n 0, 1, 0, 0, []), (145, 0, .getfield 121, 3, 8, 47, [2, 0, 6236]), (148, 0, .aload_n 0, 1, 0, 0, []), (149, 0, .getfield 948, 3, 8, 44, [0, 0, 6233]), (152, 0, .aload_n 0, 1, 0, 0, []), (153, 0, .iload_n 1, 1, 0, 0, []), (154, 0, .bipush 8, 2, 0, 0, []), (156, 0, .iadd, 1, 0, 0, []), (157, 0, .bipush 8, 2, 0, 0, []), (159, 0, .invokevirtual 919, 3, 331, 8, [11029]), (162, 0, .lastore, 1, 0, 0, []), (163, 0, .aload_n 0, 1, 0, 0, []), (164, 0, .dup, 1, 0, 0, []), (165, 0, .getfield 948, 3, 8, 44, [0, 0, 6233]), (168, 0, .iconst 1, 1, 0, 0, []), (169, 0, .iadd, 1, 0, 0, []), (170, 0, .putfield 948, 3, 8, 44, [0, 0, 6233]), (173, 0, .return_, 1, 0, 0, [])]
def m_Model_memorySymbol : List aT := [(0, [(0, 2), (1, 0), (2, 1), (4, 1)], []), (35, [(0, 2), (1, 0), (2, 1), (4, 1), (7, 1)], []), (53, [(0, 2), (1, 0), (2, 1), (4, 1), (7, 1), (9, 0)], []), (94, [(0, 2), (1, 0), (2, 1), (4, 1), (7, 1), (9, 0)], [])]
def B_Model_memorySymbol_0 (X : Nat → List Int → AMem → Prop) (Q : Int → AMem → Prop) (x1 x2 x4 : Int) (σ : AMem) : Prop :=
  am_r32 (x1 + 4) ∧ 0 ≤ (x1 + 4) ∧ (x1 + 4) < 65536 ∧ am_let (i_and (i_shr (σ 9857 (x1 + 4)) 4) 15) (fun y1 => T_Model_triedNum [9790, x1, 4] σ (fun r2 σ3 => (if y1 = 1 then
  X 1 [9790, x1, x2, x4, r2] σ3
  else
  (if y1 = 2 then
    X 1 [9790, x1, x2, x4, r2] σ3
    else
    Q 0 σ3))))
def B_Model_memorySymbol_1 (X : Nat → List Int → AMem → Prop) (Q : Int → AMem → Prop) (x1 x2 x4 x7 : Int) (σ : AMem) : Prop :=
  am_r32 (x1 + 6) ∧ T_Model_triedNum [9790, (x1 + 6), 2] σ (fun r1 σ2 => (if r1 = 0 then
  Q 0 σ2
  else
  X 2 [9790, x1, x2, x4, x7, 0] σ2))
def B_Model_memorySymbol_2 (X : Nat → List Int → AMem → Prop) (Q : Int → AMem → Prop) (x1 x2 x4 x7 x9 : Int) (σ : AMem) : Prop :=
  (if (w64 (x7 + x9)) < x4 then
  (if 20 < x9 then
    X 3 [9790, x1, x2, x4, x7, x9] σ
    else
    am_r32 ((w32 (w64 (x2 + x7))) + x9) ∧ 0 ≤ ((w32 (w64 (x2 + x7))) + x9) ∧ ((w32 (w64 (x2 + x7))) + x9) < 65536 ∧ (if (σ 9857 ((w32 (w64 (x2 + x7))) + x9)) = 0 then
      X 3 [9790, x1, x2, x4, x7, x9] σ
      else
      am_r32 (x9 + 1) ∧ X 2 [9790, x1, x2, x4, x7, (x9 + 1)] σ))
  else
  X 3 [9790, x1, x2, x4, x7, x9] σ)
def B_Model_memorySymbol_3 (X : Nat → List Int → AMem → Prop) (Q : Int → AMem → Prop) (x1 x2 x4 x7 x9 : Int) (σ : AMem) : Prop :=
  (if (w64 (x7 + x9)) < x4 then
  (if x9 = 0 then
    Q 0 σ
    else
    (if 20 < x9 then
      Q 0 σ
      else
      0 ≤ (σ 9790 44) ∧ (σ 9790 44) < 2800 ∧ am_let (am_upd σ 9823 (σ 9790 44) (w32 (w64 (x2 + x7)))) (fun σ1 => 0 ≤ (σ1 9790 44) ∧ (σ1 9790 44) < 2800 ∧ am_let (am_upd σ1 9824 (σ1 9790 44) x9) (fun σ2 => am_r32 (x1 + 8) ∧ T_Model_triedNum [9790, (x1 + 8), 8] σ2 (fun r3 σ4 => 0 ≤ (σ2 9790 44) ∧ (σ2 9790 44) < 2800 ∧ am_let (am_upd σ4 9825 (σ2 9790 44) r3) (fun σ5 => am_r32 ((σ5 9790 44) + 1) ∧ am_let (am_upd σ5 9790 44 ((σ5 9790 44) + 1)) (fun σ6 => Q 0 σ6)))))))
  else
  Q 0 σ)
def B_Model_memorySymbol : (Nat → List Int → AMem → Prop) → (Int → AMem → Prop) → Nat → List Int → AMem → Prop := fun X Q j v σ => am_sel [(am_v4 (fun t x1 x2 x4 σ => if t = 9790 then B_Model_memorySymbol_0 X Q x1 x2 x4 σ else False)), (am_v5 (fun t x1 x2 x4 x7 σ => if t = 9790 then B_Model_memorySymbol_1 X Q x1 x2 x4 x7 σ else False)), (am_v6 (fun t x1 x2 x4 x7 x9 σ => if t = 9790 then B_Model_memorySymbol_2 X Q x1 x2 x4 x7 x9 σ else False)), (am_v6 (fun t x1 x2 x4 x7 x9 σ => if t = 9790 then B_Model_memorySymbol_3 X Q x1 x2 x4 x7 x9 σ else False))] j v σ
def T_Model_memorySymbol : List Int → AMem → (Int → AMem → Prop) → Prop := am_T B_Model_memorySymbol
abbrev y_Model_memorySymbol : MethodName := ⟨"LinkHouseModel", "memorySymbol", "(IJJ)V"⟩
def a_Model_memorySymbol : AC := (335, (y_Model_memorySymbol, prog_10_method_159_code, 10, (Option.none : Option Jvm.ClassFile.FieldType)), [2, 0, 1, 1], 3, false, { frames := 1, cells := 0, slots := 0, locals := 33 }, T_Model_memorySymbol)
set_option maxRecDepth 100000 in
theorem ms_Model_memorySymbol : am_MSp a_Model_memorySymbol := am_ms_v 11045 9 11044 114001 8 rfl (by decide +kernel)
abbrev k_Model_memorySymbol : List AC := [a_Model_triedNum]
set_option maxRecDepth 100000 in
theorem s_Model_memorySymbol : (am_chkR { frames := 1, cells := 0, slots := 0, locals := 33 } k_Model_memorySymbol && am_chkN c_Model_memorySymbol { frames := 1, cells := 0, slots := 0, locals := 33 } && c_Model_memorySymbol.all (am_chk "LinkHouseModel" prog_10_method_159_code 10 (Option.none : Option Jvm.ClassFile.FieldType) k_Model_memorySymbol) && c_Model_memorySymbol.all (am_chkL m_Model_memorySymbol) && decide (m_Model_memorySymbol[0]? = some (0, am_argp 0 [2, 0, 1, 1], [])) && decide (am_argn [2, 0, 1, 1] ≤ 10)) = true := by decide +kernel
set_option maxHeartbeats 150000 in
set_option maxRecDepth 100000 in
theorem h_Model_memorySymbol : ∀ X Q j v σ, B_Model_memorySymbol X Q j v σ → am_at GR k_Model_memorySymbol c_Model_memorySymbol m_Model_memorySymbol X Q 107 j v σ := fun X Q => am_sel_all (P := fun j v σ => am_at GR k_Model_memorySymbol c_Model_memorySymbol m_Model_memorySymbol X Q 107 j v σ) (⟨(am_v4_of (fun t x1 x2 x4 σ h => am_tk (fun e => by subst e; exact fun h => h) h)), ⟨(am_v5_of (fun t x1 x2 x4 x7 σ h => am_tk (fun e => by subst e; exact fun h => h) h)), ⟨(am_v6_of (fun t x1 x2 x4 x7 x9 σ h => am_tk (fun e => by subst e; exact fun h => h) h)), ⟨(am_v6_of (fun t x1 x2 x4 x7 x9 σ h => am_tk (fun e => by subst e; exact fun h => h) h)), trivial⟩⟩⟩⟩)
set_option maxRecDepth 100000 in
theorem S_Model_memorySymbol (l : Launch) (w : AW) : am_S l w GR a_Model_memorySymbol := am_sound (rt := 3) (cal := k_Model_memorySymbol) 335 y_Model_memorySymbol prog_10_method_159_code 10 (Option.none : Option Jvm.ClassFile.FieldType) [2, 0, 1, 1] false { frames := 1, cells := 0, slots := 0, locals := 33 } B_Model_memorySymbol "LinkHouseModel" c_Model_memorySymbol m_Model_memorySymbol 107 ms_Model_memorySymbol (by decide +kernel) rfl rfl (am_cal (S_Model_triedNum l w) (fun _ h => absurd h List.not_mem_nil)) s_Model_memorySymbol h_Model_memorySymbol
set_option maxRecDepth 100000 in
theorem of_Model_memorySymbol {Q : Int → AMem → Prop} {x1 x2 x4 : Int} {σ : AMem} (h : ∀ X : Nat → List Int → AMem → Prop, (∀ (x1 x2 x4 : Int) (σ : AMem), B_Model_memorySymbol_0 X Q x1 x2 x4 σ → X 0 [9790, x1, x2, x4] σ) → (∀ (x1 x2 x4 x7 : Int) (σ : AMem), B_Model_memorySymbol_1 X Q x1 x2 x4 x7 σ → X 1 [9790, x1, x2, x4, x7] σ) → (∀ (x1 x2 x4 x7 x9 : Int) (σ : AMem), B_Model_memorySymbol_2 X Q x1 x2 x4 x7 x9 σ → X 2 [9790, x1, x2, x4, x7, x9] σ) → (∀ (x1 x2 x4 x7 x9 : Int) (σ : AMem), B_Model_memorySymbol_3 X Q x1 x2 x4 x7 x9 σ → X 3 [9790, x1, x2, x4, x7, x9] σ) → X 0 [9790, x1, x2, x4] σ) : T_Model_memorySymbol [9790, x1, x2, x4] σ Q := fun X hX => h X (fun x1 x2 x4 σ h => hX 0 [9790, x1, x2, x4] σ h) (fun x1 x2 x4 x7 σ h => hX 1 [9790, x1, x2, x4, x7] σ h) (fun x1 x2 x4 x7 x9 σ h => hX 2 [9790, x1, x2, x4, x7, x9] σ h) (fun x1 x2 x4 x7 x9 σ h => hX 3 [9790, x1, x2, x4, x7, x9] σ h)
def c_Model_findMemoryNames : List aE := [(0, 1, .aload_n 0, 1, 0, 0, []), (1, 0, .iconst 0, 1, 0, 0, []), (2, 0, .putfield 948, 3, 8, 44, [0, 0, 6233]), (5, 0, .aload_n 0, 1, 0, 0, []), (6, 0, .bipush 60, 2, 0, 0, []), (8, 0, .iconst 2, 1, 0, 0, []), (9, 0, .invokevirtual 919, 3, 331, 8, [11029]), (12, 0, .l2i, 1, 0, 0, []), (13, 0, .istore_n 1, 1, 0, 0, []), (14, 0, .aload_n 0, 1, 0, 0, []), (15, 0, .bipush 40, 2, 0, 0, []), (17, 0, .bipush 8, 2, 0, 0, []), (19, 0, .invokevirtual 919, 3, 331, 8, [11029]), (22, 0, .lstore_n 2, 1, 0, 0, []), (23, 0, .aload_n 0, 1, 0, 0, []), (24, 0, .bipush 58, 2, 0, 0, []), (26, 0, .iconst 2, 1, 0, 0, []), (27, 0, .invokevirtual 919, 3, 331, 8, [11029]), (30, 0, .ldc2_w 341, 3, 64, 0, [8135]), (33, 0, .lcmp, 1, 0, 0, []), (34, 0, .ifCond .ne 32, 3, 0, 0, []), (37, 0, .iload_n 1, 1, 0, 0, []), (38, 0, .iconst 1, 1, 0, 0, []), (39, 0, .if_icmp .lt 27, 3, 0, 0, []), (42, 0, .iload_n 1, 1, 0, 0, []), (43, 0, .bipush 24, 2, 0, 0, []), (45, 0, .if_icmp .gt 21, 3, 0, 0, []), (48, 0, .lload_n 2, 1, 0, 0, []), (49, 0, .ldc2_w 341, 3, 64, 0, [8135]), (52, 0, .iload_n 1, 1, 0, 0, []), (53, 0, .i2l, 1, 0, 0, []), (54, 0, .lmul, 1, 0, 0, []), (55, 0, .aload_n 0, 1, 0, 0, []), (56, 0, .getfield 916, 3, 8, 101, [0, 0, 7050]), (59, 0, .i2l, 1, 0, 0, []), (60, 0, .invokestatic 343, 3, 186, 0, [8140]), (63, 0, .ifCond .ne 4, 3, 0, 0, []), (66, 0, .return_, 1, 0, 0, []), (67, 0, .iconst 0, 1, 0, 0, []), (68, 0, .istore 4, 2, 0, 0, []), (70, 2, .iload 4, 2, 0, 0, []), (72, 0, .iload_n 1, 1, 0, 0, []), (73, 0, .if_icmp .ge 31, 3, 0, 0, []), (76, 0, .aload_n 0, 1, 0, 0, []), (77, 0, .lload_n 2, 1, 0, 0, []), (78, 0, .l2i, 1, 0, 0, []), (79, 0, .bipush 64, 2, 0, 0, []), (81, 0, .iload 4, 2, 0, 0, []), (83, 0, .imul, 1, 0, 0, []), (84, 0, .iadd, 1, 0, 0, []), (85, 0, .iconst 4, 1, 0, 0, []), (86, 0, .iadd, 1, 0, 0, []), (87, 0, .iconst 4, 1, 0, 0, []), (88, 0, .invokevirtual 919, 3, 331, 8, [11029]), (91, 0, .ldc2_w 307, 3, 2, 0, [8172]), (94, 0, .lcmp, 1, 0, 0, []), (95, 0, .ifCond .eq 9, 3, 0, 0, []), (98, 0, .iinc 4 1, 3, 0, 0, []), (101, 0, .goto (-31), 3, 0, 0, []), (104, 3, .iload 4, 2, 0, 0, []), (106, 0, .iload_n 1, 1, 0, 0, []), (107, 0, .if_icmp .ne 4, 3, 0, 0, []), (110, 0, .return_, 1, 0, 0, []), (111, 0, .lload_n 2, 1, 0, 0, []), (112, 0, .l2i, 1, 0, 0, []), (113, 0, .bipush 64, 2, 0, 0, []), (115, 0, .iload 4, 2, 0, 0, []), (117, 0, .imul, 1, 0, 0, []), (118, 0, .iadd, 1, 0, 0, []), (119, 0, .istore 5, 2, 0, 0, []), (121, 0, .aload_n 0, 1, 0, 0, []), (122, 0, .iload 5, 2, 0, 0, []), (124, 0, .bipush 24, 2, 0, 0, []), (126, 0, .iadd, 1, 0, 0, []), (127, 0, .bipush 8, 2, 0, 0, []), (129, 0, .invokevirtual 919, 3, 331, 8, [11029]), (132, 0, .lstore 6, 2, 0, 0, []), (134, 0, .aload_n 0, 1, 0, 0, []), (135, 0, .iload 5, 2, 0, 0, []), (137, 0, .bipush 32, 2, 0, 0, []), (139, 0, .iadd, 1, 0, 0, []), (140, 0, .bipush 8, 2, 0, 0, []), (142, 0, .invokevirtual 919, 3, 331, 8, [11029]), (145, 0, .lstore 8, 2, 0, 0, []), (147, 0, .aload_n 0, 1, 0, 0, []), (148, 0, .iload 5, 2, 0, 0, []), (150, 0, .bipush 40, 2, 0, 0, []), (152, 0, .iadd, 1, 0, 0, []), (153, 0, .iconst 4, 1, 0, 0, []), (154, 0, .invokevirtual 919, 3, 331, 8, [11029]), (157, 0, .lstore 10, 2, 0, 0, []), (159, 0, .lload 8, 2, 0, 0, []), (161, 0, .lconst 0, 1, 0, 0, []), (162, 0, .lcmp, 1, 0, 0, []), (163, 0, .ifCond .le 37, 3, 0, 0, []), (166, 0, .lload 8, 2, 0, 0, []), (168, 0, .ldc2_w 360, 3, 24, 0, [8190]), (171, 0, .lrem, 1, 0, 0, []), (172, 0, .lconst 0, 1, 0, 0, []), (173, 0, .lcmp, 1, 0, 0, []), (174, 0, .ifCond .ne 26, 3, 0, 0, []), (177, 0, .lload 10, 2, 0, 0, []), (179, 0, .iload_n 1, 1, 0, 0, []), (180, 0, .i2l, 1, 0, 0, []), (181, 0, .lcmp, 1, 0, 0, []), (182, 0, .ifCond .ge 18, 3, 0, 0, []), (185, 0, .lload 6, 2, 0, 0, []), (187, 0, .lload 8, 2, 0, 0, []), (189, 0, .aload_n 0, 1, 0, 0, []), (190, 0, .getfield 916, 3, 8, 101, [0, 0, 7050]), (193, 0, .i2l, 1, 0, 0, []), (194, 0, .invokestatic 343, 3, 186, 0, [8140]), (197, 0, .ifCond .ne 4, 3, 0, 0, []), (200, 0, .return_, 1, 0, 0, []), (201, 0, .lload_n 2, 1, 0, 0, []), (202, 0, .l2i, 1, 0, 0, []), (203, 0, .bipush 64, 2, 0, 0, []), (205, 0, .lload 10, 2, 0, 0, []), (207, 0, .l2i, 1, 0, 0, []), (208, 0, .imul, 1, 0, 0, []), (209, 0, .iadd, 1, 0, 0, []), (210, 0, .istore 12, 2, 0, 0, []), (212, 0, .aload_n 0, 1, 0, 0, []), (213, 0, .iload 12, 2, 0, 0, []), (215, 0, .bipush 24, 2, 0, 0, []), (217, 0, .iadd, 1, 0, 0, []), (218, 0, .bipush 8, 2, 0, 0, []), (220, 0, .invokevirtual 919, 3, 331, 8, [11029]), (223, 0, .lstore 13, 2, 0, 0, []), (225, 0, .aload_n 0, 1, 0, 0, []), (226, 0, .iload 12, 2, 0, 0, []), (228, 0, .bipush 32, 2, 0, 0, []), (230, 0, .iadd, 1, 0, 0, []), (231, 0, .bipush 8, 2, 0, 0, []), (233, 0, .invokevirtual 919, 3, 331, 8, [11029]), (236, 0, .lstore 15, 2, 0, 0, []), (238, 0, .aload_n 0, 1, 0, 0, []), (239, 0, .iload 12, 2, 0, 0, []), (241, 0, .iconst 4, 1, 0, 0, []), (242, 0, .iadd, 1, 0, 0, []), (243, 0, .iconst 4, 1, 0, 0, []), (244, 0, .invokevirtual 919, 3, 331, 8, [11029]), (247, 0, .ldc2_w 364, 3, 3, 0, [8196]), (250, 0, .lcmp, 1, 0, 0, []), (251, 0, .ifCond .ne 18, 3, 0, 0, []), (254, 0, .lload 13, 2, 0, 0, []), (256, 0, .lload 15, 2, 0, 0, []), (258, 0, .aload_n 0, 1, 0, 0, []), (259, 0, .getfield 916, 3, 8, 101, [0, 0, 7050]), (262, 0, .i2l, 1, 0, 0, []), (263, 0, .invokestatic 343, 3, 186, 0, [8140]), (266, 0, .ifCond .ne 4, 3, 0, 0, []), (269, 0, .return_, 1, 0, 0, []), (270, 0, .iconst 1, 1, 0, 0, []), (271, 0, .istore 17, 2, 0, 0, []), (273, 4, .iload 17, 2, 0, 0, []), (275, 0, .lload 8, 2, 0, 0, []), (277, 0, .ldc2_w 360, 3, 24, 0, [8190]), (280, 0, .ldiv, 1, 0, 0, []), (281, 0, .l2i, 1, 0, 0, []), (282, 0, .if_icmp .ge 26, 3, 0, 0, []), (285, 0, .aload_n 0, 1, 0, 0, []), (286, 0, .lload 6, 2, 0, 0, []), (288, 0, .l2i, 1, 0, 0, []), (289, 0, .bipush 24, 2, 0, 0, []), (291, 0, .iload 17, 2, 0, 0, []), (293, 0, .imul, 1, 0, 0, []), (294, 0, .iadd, 1, 0, 0, []), (295, 0, .lload 13, 2, 0, 0, []), (297, 0, .lload 15, 2, 0, 0, []), (299, 0, .invokevirtual 951, 3, 335, 8, [11042]), (302, 0, .iinc 17 1, 3, 0, 0, []), (305, 0, .goto (-32), 3, 0, 0, []), (308, 0, .return_, 1, 0, 0, [])]
def m_Model_findMemoryNames : List aT := [(0, [(0, 2)], []), (70, [(0, 2), (1, 0), (2, 1), (4, 0)], []), (104, [(0, 2), (1, 0), (2, 1), (4, 0)], []), (273, [(0, 2), (6, 1), (8, 1), (13, 1), (15, 1), (17, 0)], [])]
def B_Model_findMemoryNames_0 (X : Nat → List Int → AMem → Prop) (Q : Int → AMem → Prop) (σ : AMem) : Prop :=
  am_let (am_upd σ 9790 44 0) (fun σ1 => T_Model_triedNum [9790, 60, 2] σ1 (fun r2 σ3 => T_Model_triedNum [9790, 40, 8] σ3 (fun r4 σ5 => T_Model_triedNum [9790, 58, 2] σ5 (fun r6 σ7 => (if r6 = 64 then
  (if (w32 r2) < 1 then
    Q 0 σ7
    else
    (if 24 < (w32 r2) then
      Q 0 σ7
      else
      T_Model_lies [r4, (w64 (64 * (w32 r2))), (σ7 9790 101)] σ7 (fun r8 σ9 => (if r8 = 0 then
        Q 0 σ9
        else
        X 1 [9790, (w32 r2), r4, 0] σ9))))
  else
  Q 0 σ7)))))
def B_Model_findMemoryNames_1 (X : Nat → List Int → AMem → Prop) (Q : Int → AMem → Prop) (x1 x2 x4 : Int) (σ : AMem) : Prop :=
  (if x4 < x1 then
  am_r32 (64 * x4) ∧ am_r32 ((w32 x2) + (64 * x4)) ∧ am_r32 (((w32 x2) + (64 * x4)) + 4) ∧ T_Model_triedNum [9790, (((w32 x2) + (64 * x4)) + 4), 4] σ (fun r1 σ2 => (if r1 = 2 then
    X 2 [9790, x1, x2, x4] σ2
    else
    am_r32 (x4 + 1) ∧ X 1 [9790, x1, x2, (x4 + 1)] σ2))
  else
  X 2 [9790, x1, x2, x4] σ)
def B_Model_findMemoryNames_2 (X : Nat → List Int → AMem → Prop) (Q : Int → AMem → Prop) (x1 x2 x4 : Int) (σ : AMem) : Prop :=
  (if x4 = x1 then
  Q 0 σ
  else
  am_r32 (64 * x4) ∧ am_r32 ((w32 x2) + (64 * x4)) ∧ am_r32 (((w32 x2) + (64 * x4)) + 24) ∧ T_Model_triedNum [9790, (((w32 x2) + (64 * x4)) + 24), 8] σ (fun r1 σ2 => am_r32 (((w32 x2) + (64 * x4)) + 32) ∧ T_Model_triedNum [9790, (((w32 x2) + (64 * x4)) + 32), 8] σ2 (fun r3 σ4 => am_r32 (((w32 x2) + (64 * x4)) + 40) ∧ T_Model_triedNum [9790, (((w32 x2) + (64 * x4)) + 40), 4] σ4 (fun r5 σ6 => (if 0 < r3 then
    (0 : Int) < 24 ∧ (if (r3.tmod 24) = 0 then
      (if r5 < x1 then
        T_Model_lies [r1, r3, (σ6 9790 101)] σ6 (fun r7 σ8 => (if r7 = 0 then
          Q 0 σ8
          else
          am_r32 (64 * (w32 r5)) ∧ am_r32 ((w32 x2) + (64 * (w32 r5))) ∧ am_let ((w32 x2) + (64 * (w32 r5))) (fun y9 => am_r32 (y9 + 24) ∧ T_Model_triedNum [9790, (y9 + 24), 8] σ8 (fun r10 σ11 => am_r32 (y9 + 32) ∧ T_Model_triedNum [9790, (y9 + 32), 8] σ11 (fun r12 σ13 => am_r32 (y9 + 4) ∧ T_Model_triedNum [9790, (y9 + 4), 4] σ13 (fun r14 σ15 => (if r14 = 3 then
            T_Model_lies [r10, r12, (σ15 9790 101)] σ15 (fun r16 σ17 => (if r16 = 0 then
              Q 0 σ17
              else
              X 3 [9790, r1, r3, r10, r12, 1] σ17))
            else
            Q 0 σ15)))))))
        else
        Q 0 σ6)
      else
      Q 0 σ6)
    else
    Q 0 σ6)))))
def B_Model_findMemoryNames_3 (X : Nat → List Int → AMem → Prop) (Q : Int → AMem → Prop) (x6 x8 x13 x15 x17 : Int) (σ : AMem) : Prop :=
  (0 : Int) < 24 ∧ (if x17 < (w32 (x8.tdiv 24)) then
  am_r32 (24 * x17) ∧ am_r32 ((w32 x6) + (24 * x17)) ∧ T_Model_memorySymbol [9790, ((w32 x6) + (24 * x17)), x13, x15] σ (fun r1 σ2 => am_r32 (x17 + 1) ∧ X 3 [9790, x6, x8, x13, x15, (x17 + 1)] σ2)
  else
  Q 0 σ)
def B_Model_findMemoryNames : (Nat → List Int → AMem → Prop) → (Int → AMem → Prop) → Nat → List Int → AMem → Prop := fun X Q j v σ => am_sel [(am_v1 (fun t σ => if t = 9790 then B_Model_findMemoryNames_0 X Q σ else False)), (am_v4 (fun t x1 x2 x4 σ => if t = 9790 then B_Model_findMemoryNames_1 X Q x1 x2 x4 σ else False)), (am_v4 (fun t x1 x2 x4 σ => if t = 9790 then B_Model_findMemoryNames_2 X Q x1 x2 x4 σ else False)), (am_v6 (fun t x6 x8 x13 x15 x17 σ => if t = 9790 then B_Model_findMemoryNames_3 X Q x6 x8 x13 x15 x17 σ else False))] j v σ
def T_Model_findMemoryNames : List Int → AMem → (Int → AMem → Prop) → Prop := am_T B_Model_findMemoryNames
abbrev y_Model_findMemoryNames : MethodName := ⟨"LinkHouseModel", "findMemoryNames", "()V"⟩
def a_Model_findMemoryNames : AC := (336, (y_Model_findMemoryNames, prog_10_method_158_code, 18, (Option.none : Option Jvm.ClassFile.FieldType)), [2], 3, false, { frames := 2, cells := 0, slots := 0, locals := 70 }, T_Model_findMemoryNames)
set_option maxRecDepth 100000 in
theorem ms_Model_findMemoryNames : am_MSp a_Model_findMemoryNames := am_ms_v 11041 9 11040 114000 8 rfl (by decide +kernel)
abbrev k_Model_findMemoryNames : List AC := [a_Model_triedNum, a_Model_lies, a_Model_memorySymbol]
set_option maxRecDepth 100000 in
theorem s_Model_findMemoryNames : (am_chkR { frames := 2, cells := 0, slots := 0, locals := 70 } k_Model_findMemoryNames && am_chkN c_Model_findMemoryNames { frames := 2, cells := 0, slots := 0, locals := 70 } && c_Model_findMemoryNames.all (am_chk "LinkHouseModel" prog_10_method_158_code 18 (Option.none : Option Jvm.ClassFile.FieldType) k_Model_findMemoryNames) && c_Model_findMemoryNames.all (am_chkL m_Model_findMemoryNames) && decide (m_Model_findMemoryNames[0]? = some (0, am_argp 0 [2], [])) && decide (am_argn [2] ≤ 18)) = true := by decide +kernel
set_option maxHeartbeats 150000 in
set_option maxRecDepth 100000 in
theorem h_Model_findMemoryNames : ∀ X Q j v σ, B_Model_findMemoryNames X Q j v σ → am_at GR k_Model_findMemoryNames c_Model_findMemoryNames m_Model_findMemoryNames X Q 179 j v σ := fun X Q => am_sel_all (P := fun j v σ => am_at GR k_Model_findMemoryNames c_Model_findMemoryNames m_Model_findMemoryNames X Q 179 j v σ) (⟨(am_v1_of (fun t σ h => am_tk (fun e => by subst e; exact fun h => h) h)), ⟨(am_v4_of (fun t x1 x2 x4 σ h => am_tk (fun e => by subst e; exact fun h => h) h)), ⟨(am_v4_of (fun t x1 x2 x4 σ h => am_tk (fun e => by subst e; exact fun h => h) h)), ⟨(am_v6_of (fun t x6 x8 x13 x15 x17 σ h => am_tk (fun e => by subst e; exact fun h => h) h)), trivial⟩⟩⟩⟩)
set_option maxRecDepth 100000 in
theorem S_Model_findMemoryNames (l : Launch) (w : AW) : am_S l w GR a_Model_findMemoryNames := am_sound (rt := 3) (cal := k_Model_findMemoryNames) 336 y_Model_findMemoryNames prog_10_method_158_code 18 (Option.none : Option Jvm.ClassFile.FieldType) [2] false { frames := 2, cells := 0, slots := 0, locals := 70 } B_Model_findMemoryNames "LinkHouseModel" c_Model_findMemoryNames m_Model_findMemoryNames 179 ms_Model_findMemoryNames (by decide +kernel) rfl rfl (am_cal (S_Model_triedNum l w) (am_cal (S_Model_lies l w) (am_cal (S_Model_memorySymbol l w) (fun _ h => absurd h List.not_mem_nil)))) s_Model_findMemoryNames h_Model_findMemoryNames
set_option maxRecDepth 100000 in
theorem of_Model_findMemoryNames {Q : Int → AMem → Prop} {σ : AMem} (h : ∀ X : Nat → List Int → AMem → Prop, (∀ (σ : AMem), B_Model_findMemoryNames_0 X Q σ → X 0 [9790] σ) → (∀ (x1 x2 x4 : Int) (σ : AMem), B_Model_findMemoryNames_1 X Q x1 x2 x4 σ → X 1 [9790, x1, x2, x4] σ) → (∀ (x1 x2 x4 : Int) (σ : AMem), B_Model_findMemoryNames_2 X Q x1 x2 x4 σ → X 2 [9790, x1, x2, x4] σ) → (∀ (x6 x8 x13 x15 x17 : Int) (σ : AMem), B_Model_findMemoryNames_3 X Q x6 x8 x13 x15 x17 σ → X 3 [9790, x6, x8, x13, x15, x17] σ) → X 0 [9790] σ) : T_Model_findMemoryNames [9790] σ Q := fun X hX => h X (fun σ h => hX 0 [9790] σ h) (fun x1 x2 x4 σ h => hX 1 [9790, x1, x2, x4] σ h) (fun x1 x2 x4 σ h => hX 2 [9790, x1, x2, x4] σ h) (fun x6 x8 x13 x15 x17 σ h => hX 3 [9790, x6, x8, x13, x15, x17] σ h)
