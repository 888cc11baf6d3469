/-! methods: printed by gen/all.py -/
def c_Loader_load : List aE := [(0, 1, .aload_n 0, 1, 0, 0, []), (1, 0, .lload_n 1, 1, 0, 0, []), (2, 0, .ldc2_w 86, 3, 8, 0, [5032]), (5, 0, .ladd, 1, 0, 0, []), (6, 0, .bipush 8, 2, 0, 0, []), (8, 0, .invokevirtual 64, 3, 124, 1, [5018]), (11, 0, .lstore_n 3, 1, 0, 0, []), (12, 0, .aload_n 0, 1, 0, 0, []), (13, 0, .lload_n 1, 1, 0, 0, []), (14, 0, .ldc2_w 70, 3, 16, 0, [5024]), (17, 0, .ladd, 1, 0, 0, []), (18, 0, .bipush 8, 2, 0, 0, []), (20, 0, .invokevirtual 64, 3, 124, 1, [5018]), (23, 0, .lstore 5, 2, 0, 0, []), (25, 0, .aload_n 0, 1, 0, 0, []), (26, 0, .lload_n 1, 1, 0, 0, []), (27, 0, .ldc2_w 84, 3, 32, 0, [5031]), (30, 0, .ladd, 1, 0, 0, []), (31, 0, .bipush 8, 2, 0, 0, []), (33, 0, .invokevirtual 64, 3, 124, 1, [5018]), (36, 0, .lstore 7, 2, 0, 0, []), (38, 0, .aload_n 0, 1, 0, 0, []), (39, 0, .lload_n 1, 1, 0, 0, []), (40, 0, .ldc2_w 109, 3, 40, 0, [5041]), (43, 0, .ladd, 1, 0, 0, []), (44, 0, .bipush 8, 2, 0, 0, []), (46, 0, .invokevirtual 64, 3, 124, 1, [5018]), (49, 0, .lstore 9, 2, 0, 0, []), (51, 0, .aload_n 0, 1, 0, 0, []), (52, 0, .lload_n 1, 1, 0, 0, []), (53, 0, .ldc2_w 111, 3, 48, 0, [5042]), (56, 0, .ladd, 1, 0, 0, []), (57, 0, .bipush 8, 2, 0, 0, []), (59, 0, .invokevirtual 64, 3, 124, 1, [5018]), (62, 0, .lstore 11, 2, 0, 0, []), (64, 0, .aload_n 0, 1, 0, 0, []), (65, 0, .lload_n 3, 1, 0, 0, []), (66, 0, .lload 7, 2, 0, 0, []), (68, 0, .invokevirtual 88, 3, 125, 1, [5033]), (71, 0, .ifCond .ne 5, 3, 0, 0, []), (74, 0, .iconst 3, 1, 0, 0, []), (75, 0, .ireturn, 1, 0, 0, []), (76, 0, .lload 9, 2, 0, 0, []), (78, 0, .lload 7, 2, 0, 0, []), (80, 0, .lcmp, 1, 0, 0, []), (81, 0, .ifCond .lt 61, 3, 0, 0, []), (84, 0, .lload 9, 2, 0, 0, []), (86, 0, .ldc2_w 113, 3, 65536, 0, [5043]), (89, 0, .lcmp, 1, 0, 0, []), (90, 0, .ifCond .gt 52, 3, 0, 0, []), (93, 0, .lload 5, 2, 0, 0, []), (95, 0, .lconst 0, 1, 0, 0, []), (96, 0, .lcmp, 1, 0, 0, []), (97, 0, .ifCond .lt 45, 3, 0, 0, []), (100, 0, .lload 5, 2, 0, 0, []), (102, 0, .ldc2_w 115, 3, 140737488355328, 0, [5044]), (105, 0, .lcmp, 1, 0, 0, []), (106, 0, .ifCond .gt 36, 3, 0, 0, []), (109, 0, .lload 11, 2, 0, 0, []), (111, 0, .lload 11, 2, 0, 0, []), (113, 0, .lconst 1, 1, 0, 0, []), (114, 0, .lsub, 1, 0, 0, []), (115, 0, .land, 1, 0, 0, []), (116, 0, .lconst 0, 1, 0, 0, []), (117, 0, .lcmp, 1, 0, 0, []), (118, 0, .ifCond .ne 24, 3, 0, 0, []), (121, 0, .lload 11, 2, 0, 0, []), (123, 0, .lconst 0, 1, 0, 0, []), (124, 0, .lcmp, 1, 0, 0, []), (125, 0, .ifCond .eq 19, 3, 0, 0, []), (128, 0, .lload 5, 2, 0, 0, []), (130, 0, .lload_n 3, 1, 0, 0, []), (131, 0, .lsub, 1, 0, 0, []), (132, 0, .lload 11, 2, 0, 0, []), (134, 0, .lconst 1, 1, 0, 0, []), (135, 0, .lsub, 1, 0, 0, []), (136, 0, .land, 1, 0, 0, []), (137, 0, .lconst 0, 1, 0, 0, []), (138, 0, .lcmp, 1, 0, 0, []), (139, 0, .ifCond .eq 5, 3, 0, 0, []), (142, 0, .iconst 4, 1, 0, 0, []), (143, 0, .ireturn, 1, 0, 0, []), (144, 2, .aload_n 0, 1, 0, 0, []), (145, 0, .getfield 61, 3, 1, 11, [0, 0, 47]), (148, 0, .ifCond .le 34, 3, 0, 0, []), (151, 0, .lload 5, 2, 0, 0, []), (153, 0, .aload_n 0, 1, 0, 0, []), (154, 0, .getfield 26, 3, 1, 4, [2, 0, 39]), (157, 0, .aload_n 0, 1, 0, 0, []), (158, 0, .getfield 61, 3, 1, 11, [0, 0, 47]), (161, 0, .iconst 1, 1, 0, 0, []), (162, 0, .isub, 1, 0, 0, []), (163, 0, .laload, 1, 0, 0, []), (164, 0, .aload_n 0, 1, 0, 0, []), (165, 0, .getfield 29, 3, 1, 5, [2, 0, 40]), (168, 0, .aload_n 0, 1, 0, 0, []), (169, 0, .getfield 61, 3, 1, 11, [0, 0, 47]), (172, 0, .iconst 1, 1, 0, 0, []), (173, 0, .isub, 1, 0, 0, []), (174, 0, .laload, 1, 0, 0, []), (175, 0, .ladd, 1, 0, 0, []), (176, 0, .lcmp, 1, 0, 0, []), (177, 0, .ifCond .ge 5, 3, 0, 0, []), (180, 0, .iconst 5, 1, 0, 0, []), (181, 0, .ireturn, 1, 0, 0, []), (182, 3, .aload_n 0, 1, 0, 0, []), (183, 0, .getfield 26, 3, 1, 4, [2, 0, 39]), (186, 0, .aload_n 0, 1, 0, 0, []), (187, 0, .getfield 61, 3, 1, 11, [0, 0, 47]), (190, 0, .lload 5, 2, 0, 0, []), (192, 0, .lastore, 1, 0, 0, []), (193, 0, .aload_n 0, 1, 0, 0, []), (194, 0, .getfield 29, 3, 1, 5, [2, 0, 40]), (197, 0, .aload_n 0, 1, 0, 0, []), (198, 0, .getfield 61, 3, 1, 11, [0, 0, 47]), (201, 0, .lload 9, 2, 0, 0, []), (203, 0, .lastore, 1, 0, 0, []), (204, 0, .aload_n 0, 1, 0, 0, []), (205, 0, .getfield 32, 3, 1, 6, [2, 0, 41]), (208, 0, .aload_n 0, 1, 0, 0, []), (209, 0, .getfield 61, 3, 1, 11, [0, 0, 47]), (212, 0, .aload_n 0, 1, 0, 0, []), (213, 0, .lload_n 1, 1, 0, 0, []), (214, 0, .ldc2_w 117, 3, 4, 0, [5045]), (217, 0, .ladd, 1, 0, 0, []), (218, 0, .iconst 4, 1, 0, 0, []), (219, 0, .invokevirtual 64, 3, 124, 1, [5018]), (222, 0, .lastore, 1, 0, 0, []), (223, 0, .aload_n 0, 1, 0, 0, []), (224, 0, .getfield 35, 3, 1, 7, [2, 0, 42]), (227, 0, .aload_n 0, 1, 0, 0, []), (228, 0, .getfield 61, 3, 1, 11, [0, 0, 47]), (231, 0, .lload 7, 2, 0, 0, []), (233, 0, .lastore, 1, 0, 0, []), (234, 0, .aload_n 0, 1, 0, 0, []), (235, 0, .getfield 38, 3, 1, 8, [2, 0, 43]), (238, 0, .aload_n 0, 1, 0, 0, []), (239, 0, .getfield 61, 3, 1, 11, [0, 0, 47]), (242, 0, .lload_n 3, 1, 0, 0, []), (243, 0, .lastore, 1, 0, 0, []), (244, 0, .iconst 0, 1, 0, 0, []), (245, 0, .ireturn, 1, 0, 0, [])]
def m_Loader_load : List aT := [(0, [(0, 2), (1, 1)], []), (144, [(0, 2), (1, 1), (3, 1), (5, 1), (7, 1), (9, 1)], []), (182, [(0, 2), (1, 1), (3, 1), (5, 1), (7, 1), (9, 1)], [])]
def B_Loader_load_0 (X : Nat → List Int → AMem → Prop) (Q : Int → AMem → Prop) (x1 : Int) (σ : AMem) : Prop :=
  T_Loader_number [2, (w64 (x1 + 8)), 8] σ (fun r1 σ2 => T_Loader_number [2, (w64 (x1 + 16)), 8] σ2 (fun r3 σ4 => T_Loader_number [2, (w64 (x1 + 32)), 8] σ4 (fun r5 σ6 => T_Loader_number [2, (w64 (x1 + 40)), 8] σ6 (fun r7 σ8 => T_Loader_number [2, (w64 (x1 + 48)), 8] σ8 (fun r9 σ10 => T_Loader_lies [2, r1, r5] σ10 (fun r11 σ12 => (if r11 = 0 then
  Q 3 σ12
  else
  (if r7 < r5 then
    Q 4 σ12
    else
    (if 65536 < r7 then
      Q 4 σ12
      else
      (if r3 < 0 then
        Q 4 σ12
        else
        (if 140737488355328 < r3 then
          Q 4 σ12
          else
          (if (l_and r9 (w64 (r9 - 1))) = 0 then
            (if r9 = 0 then
              X 1 [2, x1, r1, r3, r5, r7] σ12
              else
              (if (l_and (w64 (r3 - r1)) (w64 (r9 - 1))) = 0 then
                X 1 [2, x1, r1, r3, r5, r7] σ12
                else
                Q 4 σ12))
            else
            Q 4 σ12))))))))))))
def B_Loader_load_1 (X : Nat → List Int → AMem → Prop) (Q : Int → AMem → Prop) (x1 x3 x5 x7 x9 : Int) (σ : AMem) : Prop :=
  (if 0 < (σ 2 11) then
  am_r32 ((σ 2 11) - 1) ∧ 0 ≤ ((σ 2 11) - 1) ∧ ((σ 2 11) - 1) < 8 ∧ am_r32 ((σ 2 11) - 1) ∧ 0 ≤ ((σ 2 11) - 1) ∧ ((σ 2 11) - 1) < 8 ∧ (if x5 < (w64 ((σ 7 ((σ 2 11) - 1)) + (σ 8 ((σ 2 11) - 1)))) then
    Q 5 σ
    else
    X 2 [2, x1, x3, x5, x7, x9] σ)
  else
  X 2 [2, x1, x3, x5, x7, x9] σ)
def B_Loader_load_2 (X : Nat → List Int → AMem → Prop) (Q : Int → AMem → Prop) (x1 x3 x5 x7 x9 : Int) (σ : AMem) : Prop :=
  0 ≤ (σ 2 11) ∧ (σ 2 11) < 8 ∧ am_let (am_upd σ 7 (σ 2 11) x5) (fun σ1 => 0 ≤ (σ1 2 11) ∧ (σ1 2 11) < 8 ∧ am_let (am_upd σ1 8 (σ1 2 11) x9) (fun σ2 => T_Loader_number [2, (w64 (x1 + 4)), 4] σ2 (fun r3 σ4 => 0 ≤ (σ2 2 11) ∧ (σ2 2 11) < 8 ∧ am_let (am_upd σ4 9 (σ2 2 11) r3) (fun σ5 => 0 ≤ (σ5 2 11) ∧ (σ5 2 11) < 8 ∧ am_let (am_upd σ5 10 (σ5 2 11) x7) (fun σ6 => 0 ≤ (σ6 2 11) ∧ (σ6 2 11) < 8 ∧ am_let (am_upd σ6 11 (σ6 2 11) x3) (fun σ7 => Q 0 σ7))))))
def B_Loader_load : (Nat → List Int → AMem → Prop) → (Int → AMem → Prop) → Nat → List Int → AMem → Prop := fun X Q j v σ => am_sel [(am_v2 (fun t x1 σ => if t = 2 then B_Loader_load_0 X Q x1 σ else False)), (am_v6 (fun t x1 x3 x5 x7 x9 σ => if t = 2 then B_Loader_load_1 X Q x1 x3 x5 x7 x9 σ else False)), (am_v6 (fun t x1 x3 x5 x7 x9 σ => if t = 2 then B_Loader_load_2 X Q x1 x3 x5 x7 x9 σ else False))] j v σ
def T_Loader_load : List Int → AMem → (Int → AMem → Prop) → Prop := am_T B_Loader_load
abbrev y_Loader_load : MethodName := ⟨"LinkHouse$Loader", "load", "(J)I"⟩
def a_Loader_load : AC := (126, (y_Loader_load, prog_3_method_5_code, 13, (Option.some Jvm.ClassFile.FieldType.int)), [2, 1], 0, false, { frames := 1, cells := 0, slots := 0, locals := 34 }, T_Loader_load)
set_option maxRecDepth 100000 in
theorem ms_Loader_load : am_MSp a_Loader_load := am_ms_v 5040 2 5039 104004 1 rfl (by decide +kernel)
abbrev k_Loader_load : List AC := [a_Loader_number, a_Loader_lies]
set_option maxRecDepth 100000 in
theorem s_Loader_load : (am_chkR { frames := 1, cells := 0, slots := 0, locals := 34 } k_Loader_load && am_chkN c_Loader_load { frames := 1, cells := 0, slots := 0, locals := 34 } && c_Loader_load.all (am_chk "LinkHouse$Loader" prog_3_method_5_code 13 (Option.some Jvm.ClassFile.FieldType.int) k_Loader_load) && c_Loader_load.all (am_chkL m_Loader_load) && decide (m_Loader_load[0]? = some (0, am_argp 0 [2, 1], [])) && decide (am_argn [2, 1] ≤ 13)) = true := by decide +kernel
set_option maxHeartbeats 150000 in
set_option maxRecDepth 100000 in
theorem h_Loader_load : ∀ X Q j v σ, B_Loader_load X Q j v σ → am_at GR k_Loader_load c_Loader_load m_Loader_load X Q 147 j v σ := fun X Q => am_sel_all (P := fun j v σ => am_at GR k_Loader_load c_Loader_load m_Loader_load X Q 147 j v σ) (⟨(am_v2_of (fun t x1 σ h => am_tk (fun e => by subst e; exact fun h => h) h)), ⟨(am_v6_of (fun t x1 x3 x5 x7 x9 σ h => am_tk (fun e => by subst e; exact fun h => h) h)), ⟨(am_v6_of (fun t x1 x3 x5 x7 x9 σ h => am_tk (fun e => by subst e; exact fun h => h) h)), trivial⟩⟩⟩)
set_option maxRecDepth 100000 in
theorem S_Loader_load (l : Launch) (w : AW) : am_S l w GR a_Loader_load := am_sound (rt := 0) (cal := k_Loader_load) 126 y_Loader_load prog_3_method_5_code 13 (Option.some Jvm.ClassFile.FieldType.int) [2, 1] false { frames := 1, cells := 0, slots := 0, locals := 34 } B_Loader_load "LinkHouse$Loader" c_Loader_load m_Loader_load 147 ms_Loader_load (by decide +kernel) rfl rfl (am_cal (S_Loader_number l w) (am_cal (S_Loader_lies l w) (fun _ h => absurd h List.not_mem_nil))) s_Loader_load h_Loader_load
set_option maxRecDepth 100000 in
theorem of_Loader_load {Q : Int → AMem → Prop} {x1 : Int} {σ : AMem} (h : ∀ X : Nat → List Int → AMem → Prop, (∀ (x1 : Int) (σ : AMem), B_Loader_load_0 X Q x1 σ → X 0 [2, x1] σ) → (∀ (x1 x3 x5 x7 x9 : Int) (σ : AMem), B_Loader_load_1 X Q x1 x3 x5 x7 x9 σ → X 1 [2, x1, x3, x5, x7, x9] σ) → (∀ (x1 x3 x5 x7 x9 : Int) (σ : AMem), B_Loader_load_2 X Q x1 x3 x5 x7 x9 σ → X 2 [2, x1, x3, x5, x7, x9] σ) → X 0 [2, x1] σ) : T_Loader_load [2, x1] σ Q := fun X hX => h X (fun x1 σ h => hX 0 [2, x1] σ h) (fun x1 x3 x5 x7 x9 σ h => hX 1 [2, x1, x3, x5, x7, x9] σ h) (fun x1 x3 x5 x7 x9 σ h => hX 2 [2, x1, x3, x5, x7, x9] σ h)
def c_Loader_isEntry : List aE := [(0, 1, .iconst 0, 1, 0, 0, []), (1, 0, .istore_n 3, 1, 0, 0, []), (2, 0, .iconst 0, 1, 0, 0, []), (3, 0, .istore 4, 2, 0, 0, []), (5, 2, .iload 4, 2, 0, 0, []), (7, 0, .aload_n 0, 1, 0, 0, []), (8, 0, .getfield 61, 3, 1, 11, [0, 0, 47]), (11, 0, .if_icmp .ge 65, 3, 0, 0, []), (14, 0, .iload_n 3, 1, 0, 0, []), (15, 0, .ifCond .ne 49, 3, 0, 0, []), (18, 0, .lload_n 1, 1, 0, 0, []), (19, 0, .aload_n 0, 1, 0, 0, []), (20, 0, .getfield 26, 3, 1, 4, [2, 0, 39]), (23, 0, .iload 4, 2, 0, 0, []), (25, 0, .laload, 1, 0, 0, []), (26, 0, .lcmp, 1, 0, 0, []), (27, 0, .ifCond .lt 41, 3, 0, 0, []), (30, 0, .lload_n 1, 1, 0, 0, []), (31, 0, .aload_n 0, 1, 0, 0, []), (32, 0, .getfield 26, 3, 1, 4, [2, 0, 39]), (35, 0, .iload 4, 2, 0, 0, []), (37, 0, .laload, 1, 0, 0, []), (38, 0, .aload_n 0, 1, 0, 0, []), (39, 0, .getfield 29, 3, 1, 5, [2, 0, 40]), (42, 0, .iload 4, 2, 0, 0, []), (44, 0, .laload, 1, 0, 0, []), (45, 0, .ladd, 1, 0, 0, []), (46, 0, .lcmp, 1, 0, 0, []), (47, 0, .ifCond .ge 21, 3, 0, 0, []), (50, 0, .aload_n 0, 1, 0, 0, []), (51, 0, .getfield 32, 3, 1, 6, [2, 0, 41]), (54, 0, .iload 4, 2, 0, 0, []), (56, 0, .laload, 1, 0, 0, []), (57, 0, .lconst 1, 1, 0, 0, []), (58, 0, .land, 1, 0, 0, []), (59, 0, .lconst 1, 1, 0, 0, []), (60, 0, .lcmp, 1, 0, 0, []), (61, 0, .ifCond .ne 7, 3, 0, 0, []), (64, 3, .iconst 1, 1, 0, 0, []), (65, 0, .goto 4, 3, 0, 0, []), (68, 4, .iconst 0, 1, 0, 0, []), (69, 5, .istore_n 3, 1, 0, 0, []), (70, 0, .iinc 4 1, 3, 0, 0, []), (73, 0, .goto (-68), 3, 0, 0, []), (76, 0, .iload_n 3, 1, 0, 0, []), (77, 0, .ireturn, 1, 1, 0, [])]
def m_Loader_isEntry : List aT := [(0, [(0, 2), (1, 1)], []), (5, [(0, 2), (1, 1), (3, 0), (4, 0)], []), (64, [(0, 2), (1, 1), (4, 0)], []), (68, [(0, 2), (1, 1), (4, 0)], []), (69, [(0, 2), (1, 1), (4, 0)], [0])]
def B_Loader_isEntry_0 (X : Nat → List Int → AMem → Prop) (Q : Int → AMem → Prop) (x1 : Int) (σ : AMem) : Prop :=
  X 1 [2, x1, 0, 0] σ
def B_Loader_isEntry_1 (X : Nat → List Int → AMem → Prop) (Q : Int → AMem → Prop) (x1 x3 x4 : Int) (σ : AMem) : Prop :=
  (if x4 < (σ 2 11) then
  (if x3 = 0 then
    0 ≤ x4 ∧ x4 < 8 ∧ (if x1 < (σ 7 x4) then
      X 3 [2, x1, x4] σ
      else
      0 ≤ x4 ∧ x4 < 8 ∧ 0 ≤ x4 ∧ x4 < 8 ∧ (if x1 < (w64 ((σ 7 x4) + (σ 8 x4))) then
        0 ≤ x4 ∧ x4 < 8 ∧ (if (l_and (σ 9 x4) 1) = 1 then
          X 2 [2, x1, x4] σ
          else
          X 3 [2, x1, x4] σ)
        else
        X 3 [2, x1, x4] σ))
    else
    X 2 [2, x1, x4] σ)
  else
  (if x3 = 0 ∨ x3 = 1 then Q x3 σ else False))
def B_Loader_isEntry_2 (X : Nat → List Int → AMem → Prop) (Q : Int → AMem → Prop) (x1 x4 : Int) (σ : AMem) : Prop :=
  X 4 [2, x1, x4, 1] σ
def B_Loader_isEntry_3 (X : Nat → List Int → AMem → Prop) (Q : Int → AMem → Prop) (x1 x4 : Int) (σ : AMem) : Prop :=
  X 4 [2, x1, x4, 0] σ
def B_Loader_isEntry_4 (X : Nat → List Int → AMem → Prop) (Q : Int → AMem → Prop) (x1 x4 s0 : Int) (σ : AMem) : Prop :=
  am_r32 (x4 + 1) ∧ X 1 [2, x1, s0, (x4 + 1)] σ
def B_Loader_isEntry : (Nat → List Int → AMem → Prop) → (Int → AMem → Prop) → Nat → List Int → AMem → Prop := fun X Q j v σ => am_sel [(am_v2 (fun t x1 σ => if t = 2 then B_Loader_isEntry_0 X Q x1 σ else False)), (am_v4 (fun t x1 x3 x4 σ => if t = 2 then B_Loader_isEntry_1 X Q x1 x3 x4 σ else False)), (am_v3 (fun t x1 x4 σ => if t = 2 then B_Loader_isEntry_2 X Q x1 x4 σ else False)), (am_v3 (fun t x1 x4 σ => if t = 2 then B_Loader_isEntry_3 X Q x1 x4 σ else False)), (am_v4 (fun t x1 x4 s0 σ => if t = 2 then B_Loader_isEntry_4 X Q x1 x4 s0 σ else False))] j v σ
def T_Loader_isEntry : List Int → AMem → (Int → AMem → Prop) → Prop := am_T B_Loader_isEntry
abbrev y_Loader_isEntry : MethodName := ⟨"LinkHouse$Loader", "isEntry", "(J)Z"⟩
def a_Loader_isEntry : AC := (127, (y_Loader_isEntry, prog_3_method_6_code, 5, (Option.some Jvm.ClassFile.FieldType.boolean)), [2, 1], 0, false, { frames := 0, cells := 0, slots := 0, locals := 0 }, T_Loader_isEntry)
set_option maxRecDepth 100000 in
theorem ms_Loader_isEntry : am_MSp a_Loader_isEntry := am_ms_v 5050 2 5049 104005 1 rfl (by decide +kernel)
abbrev k_Loader_isEntry : List AC := []
set_option maxRecDepth 100000 in
theorem s_Loader_isEntry : (am_chkR { frames := 0, cells := 0, slots := 0, locals := 0 } k_Loader_isEntry && am_chkN c_Loader_isEntry { frames := 0, cells := 0, slots := 0, locals := 0 } && c_Loader_isEntry.all (am_chk "LinkHouse$Loader" prog_3_method_6_code 5 (Option.some Jvm.ClassFile.FieldType.boolean) k_Loader_isEntry) && c_Loader_isEntry.all (am_chkL m_Loader_isEntry) && decide (m_Loader_isEntry[0]? = some (0, am_argp 0 [2, 1], [])) && decide (am_argn [2, 1] ≤ 5)) = true := by decide +kernel
set_option maxHeartbeats 150000 in
set_option maxRecDepth 100000 in
theorem h_Loader_isEntry : ∀ X Q j v σ, B_Loader_isEntry X Q j v σ → am_at GR k_Loader_isEntry c_Loader_isEntry m_Loader_isEntry X Q 51 j v σ := fun X Q => am_sel_all (P := fun j v σ => am_at GR k_Loader_isEntry c_Loader_isEntry m_Loader_isEntry X Q 51 j v σ) (⟨(am_v2_of (fun t x1 σ h => am_tk (fun e => by subst e; exact fun h => h) h)), ⟨(am_v4_of (fun t x1 x3 x4 σ h => am_tk (fun e => by subst e; exact fun h => h) h)), ⟨(am_v3_of (fun t x1 x4 σ h => am_tk (fun e => by subst e; exact fun h => h) h)), ⟨(am_v3_of (fun t x1 x4 σ h => am_tk (fun e => by subst e; exact fun h => h) h)), ⟨(am_v4_of (fun t x1 x4 s0 σ h => am_tk (fun e => by subst e; exact fun h => h) h)), trivial⟩⟩⟩⟩⟩)
set_option maxRecDepth 100000 in
theorem S_Loader_isEntry (l : Launch) (w : AW) : am_S l w GR a_Loader_isEntry := am_sound (rt := 0) (cal := k_Loader_isEntry) 127 y_Loader_isEntry prog_3_method_6_code 5 (Option.some Jvm.ClassFile.FieldType.boolean) [2, 1] false { frames := 0, cells := 0, slots := 0, locals := 0 } B_Loader_isEntry "LinkHouse$Loader" c_Loader_isEntry m_Loader_isEntry 51 ms_Loader_isEntry (by decide +kernel) rfl rfl (fun _ h => absurd h List.not_mem_nil) s_Loader_isEntry h_Loader_isEntry
set_option maxRecDepth 100000 in
theorem of_Loader_isEntry {Q : Int → AMem → Prop} {x1 : Int} {σ : AMem} (h : ∀ X : Nat → List Int → AMem → Prop, (∀ (x1 : Int) (σ : AMem), B_Loader_isEntry_0 X Q x1 σ → X 0 [2, x1] σ) → (∀ (x1 x3 x4 : Int) (σ : AMem), B_Loader_isEntry_1 X Q x1 x3 x4 σ → X 1 [2, x1, x3, x4] σ) → (∀ (x1 x4 : Int) (σ : AMem), B_Loader_isEntry_2 X Q x1 x4 σ → X 2 [2, x1, x4] σ) → (∀ (x1 x4 : Int) (σ : AMem), B_Loader_isEntry_3 X Q x1 x4 σ → X 3 [2, x1, x4] σ) → (∀ (x1 x4 s0 : Int) (σ : AMem), B_Loader_isEntry_4 X Q x1 x4 s0 σ → X 4 [2, x1, x4, s0] σ) → X 0 [2, x1] σ) : T_Loader_isEntry [2, x1] σ Q := fun X hX => h X (fun x1 σ h => hX 0 [2, x1] σ h) (fun x1 x3 x4 σ h => hX 1 [2, x1, x3, x4] σ h) (fun x1 x4 σ h => hX 2 [2, x1, x4] σ h) (fun x1 x4 σ h => hX 3 [2, x1, x4] σ h) (fun x1 x4 s0 σ h => hX 4 [2, x1, x4, s0] σ h)
def c_Loader_nameAt : List aE := [(0, 1, .aload_n 0, 1, 0, 0, []), (1, 0, .lload_n 1, 1, 0, 0, []), (2, 0, .ldc2_w 117, 3, 4, 0, [5045]), (5, 0, .ladd, 1, 0, 0, []), (6, 0, .iconst 1, 1, 0, 0, []), (7, 0, .invokevirtual 64, 3, 124, 1, [5018]), (10, 0, .iconst 4, 1, 0, 0, []), (11, 0, .lshr, 1, 0, 0, []), (12, 0, .lstore 7, 2, 0, 0, []), (14, 0, .aload_n 0, 1, 0, 0, []), (15, 0, .lload_n 1, 1, 0, 0, []), (16, 0, .iconst 4, 1, 0, 0, []), (17, 0, .invokevirtual 64, 3, 124, 1, [5018]), (20, 0, .lstore 9, 2, 0, 0, []), (22, 0, .lload 7, 2, 0, 0, []), (24, 0, .lconst 1, 1, 0, 0, []), (25, 0, .lcmp, 1, 0, 0, []), (26, 0, .ifCond .eq 12, 3, 0, 0, []), (29, 0, .lload 7, 2, 0, 0, []), (31, 0, .ldc2_w 72, 3, 2, 0, [5025]), (34, 0, .lcmp, 1, 0, 0, []), (35, 0, .ifCond .ne 18, 3, 0, 0, []), (38, 2, .aload_n 0, 1, 0, 0, []), (39, 0, .lload_n 1, 1, 0, 0, []), (40, 0, .ldc2_w 144, 3, 6, 0, [5064]), (43, 0, .ladd, 1, 0, 0, []), (44, 0, .iconst 2, 1, 0, 0, []), (45, 0, .invokevirtual 64, 3, 124, 1, [5018]), (48, 0, .lconst 0, 1, 0, 0, []), (49, 0, .lcmp, 1, 0, 0, []), (50, 0, .ifCond .ne 4, 3, 0, 0, []), (53, 0, .return_, 1, 0, 0, []), (54, 0, .iconst 0, 1, 0, 0, []), (55, 0, .istore 11, 2, 0, 0, []), (57, 3, .iload 11, 2, 0, 0, []), (59, 0, .bipush 20, 2, 0, 0, []), (61, 0, .if_icmp .gt 39, 3, 0, 0, []), (64, 0, .lload 9, 2, 0, 0, []), (66, 0, .iload 11, 2, 0, 0, []), (68, 0, .i2l, 1, 0, 0, []), (69, 0, .ladd, 1, 0, 0, []), (70, 0, .lload 5, 2, 0, 0, []), (72, 0, .lcmp, 1, 0, 0, []), (73, 0, .ifCond .ge 27, 3, 0, 0, []), (76, 0, .aload_n 0, 1, 0, 0, []), (77, 0, .lload_n 3, 1, 0, 0, []), (78, 0, .lload 9, 2, 0, 0, []), (80, 0, .ladd, 1, 0, 0, []), (81, 0, .iload 11, 2, 0, 0, []), (83, 0, .i2l, 1, 0, 0, []), (84, 0, .ladd, 1, 0, 0, []), (85, 0, .iconst 1, 1, 0, 0, []), (86, 0, .invokevirtual 64, 3, 124, 1, [5018]), (89, 0, .lconst 0, 1, 0, 0, []), (90, 0, .lcmp, 1, 0, 0, []), (91, 0, .ifCond .eq 9, 3, 0, 0, []), (94, 0, .iinc 11 1, 3, 0, 0, []), (97, 0, .goto (-40), 3, 0, 0, []), (100, 4, .iload 11, 2, 0, 0, []), (102, 0, .iconst 1, 1, 0, 0, []), (103, 0, .if_icmp .lt 22, 3, 0, 0, []), (106, 0, .iload 11, 2, 0, 0, []), (108, 0, .bipush 20, 2, 0, 0, []), (110, 0, .if_icmp .gt 15, 3, 0, 0, []), (113, 0, .lload 9, 2, 0, 0, []), (115, 0, .iload 11, 2, 0, 0, []), (117, 0, .i2l, 1, 0, 0, []), (118, 0, .ladd, 1, 0, 0, []), (119, 0, .lload 5, 2, 0, 0, []), (121, 0, .lcmp, 1, 0, 0, []), (122, 0, .ifCond .lt 4, 3, 0, 0, []), (125, 0, .return_, 1, 0, 0, []), (126, 0, .iconst 0, 1, 0, 0, []), (127, 0, .istore 12, 2, 0, 0, []), (129, 5, .iload 12, 2, 0, 0, []), (131, 0, .iload 11, 2, 0, 0, []), (133, 0, .if_icmp .ge 37, 3, 0, 0, []), (136, 0, .aload_n 0, 1, 0, 0, []), (137, 0, .getfield 49, 3, 1, 16, [2, 0, 54]), (140, 0, .bipush 20, 2, 0, 0, []), (142, 0, .aload_n 0, 1, 0, 0, []), (143, 0, .getfield 127, 3, 1, 17, [0, 0, 55]), (146, 0, .imul, 1, 0, 0, []), (147, 0, .iload 12, 2, 0, 0, []), (149, 0, .iadd, 1, 0, 0, []), (150, 0, .aload_n 0, 1, 0, 0, []), (151, 0, .getfield 52, 3, 1, 13, [2, 0, 50]), (154, 0, .lload_n 3, 1, 0, 0, []), (155, 0, .lload 9, 2, 0, 0, []), (157, 0, .ladd, 1, 0, 0, []), (158, 0, .l2i, 1, 0, 0, []), (159, 0, .iload 12, 2, 0, 0, []), (161, 0, .iadd, 1, 0, 0, []), (162, 0, .baload, 1, 2, 0, []), (163, 0, .bastore, 1, 2, 0, []), (164, 0, .iinc 12 1, 3, 0, 0, []), (167, 0, .goto (-38), 3, 0, 0, []), (170, 0, .aload_n 0, 1, 0, 0, []), (171, 0, .getfield 44, 3, 1, 15, [2, 0, 53]), (174, 0, .aload_n 0, 1, 0, 0, []), (175, 0, .getfield 127, 3, 1, 17, [0, 0, 55]), (178, 0, .iload 11, 2, 0, 0, []), (180, 0, .iastore, 1, 0, 0, []), (181, 0, .aload_n 0, 1, 0, 0, []), (182, 0, .getfield 41, 3, 1, 14, [2, 0, 51]), (185, 0, .aload_n 0, 1, 0, 0, []), (186, 0, .dup, 1, 0, 0, []), (187, 0, .getfield 127, 3, 1, 17, [0, 0, 55]), (190, 0, .dup_x1, 1, 0, 0, []), (191, 0, .iconst 1, 1, 0, 0, []), (192, 0, .iadd, 1, 0, 0, []), (193, 0, .putfield 127, 3, 1, 17, [0, 0, 55]), (196, 0, .aload_n 0, 1, 0, 0, []), (197, 0, .lload_n 1, 1, 0, 0, []), (198, 0, .ldc2_w 86, 3, 8, 0, [5032]), (201, 0, .ladd, 1, 0, 0, []), (202, 0, .bipush 8, 2, 0, 0, []), (204, 0, .invokevirtual 64, 3, 124, 1, [5018]), (207, 0, .lastore, 1, 0, 0, []), (208, 0, .return_, 1, 0, 0, [])]
def m_Loader_nameAt : List aT := [(0, [(0, 2), (1, 1), (3, 1), (5, 1)], []), (38, [(0, 2), (1, 1), (3, 1), (5, 1), (9, 1)], []), (57, [(0, 2), (1, 1), (3, 1), (5, 1), (9, 1), (11, 0)], []), (100, [(0, 2), (1, 1), (3, 1), (5, 1), (9, 1), (11, 0)], []), (129, [(0, 2), (1, 1), (3, 1), (9, 1), (11, 0), (12, 0)], [])]
def B_Loader_nameAt_0 (X : Nat → List Int → AMem → Prop) (Q : Int → AMem → Prop) (x1 x3 x5 : Int) (σ : AMem) : Prop :=
  T_Loader_number [2, (w64 (x1 + 4)), 1] σ (fun r1 σ2 => T_Loader_number [2, x1, 4] σ2 (fun r3 σ4 => (if (l_shr r1 4) = 1 then
  X 1 [2, x1, x3, x5, r3] σ4
  else
  (if (l_shr r1 4) = 2 then
    X 1 [2, x1, x3, x5, r3] σ4
    else
    Q 0 σ4))))
def B_Loader_nameAt_1 (X : Nat → List Int → AMem → Prop) (Q : Int → AMem → Prop) (x1 x3 x5 x9 : Int) (σ : AMem) : Prop :=
  T_Loader_number [2, (w64 (x1 + 6)), 2] σ (fun r1 σ2 => (if r1 = 0 then
  Q 0 σ2
  else
  X 2 [2, x1, x3, x5, x9, 0] σ2))
def B_Loader_nameAt_2 (X : Nat → List Int → AMem → Prop) (Q : Int → AMem → Prop) (x1 x3 x5 x9 x11 : Int) (σ : AMem) : Prop :=
  (if 20 < x11 then
  X 3 [2, x1, x3, x5, x9, x11] σ
  else
  (if (w64 (x9 + x11)) < x5 then
    T_Loader_number [2, (w64 ((w64 (x3 + x9)) + x11)), 1] σ (fun r1 σ2 => (if r1 = 0 then
      X 3 [2, x1, x3, x5, x9, x11] σ2
      else
      am_r32 (x11 + 1) ∧ X 2 [2, x1, x3, x5, x9, (x11 + 1)] σ2))
    else
    X 3 [2, x1, x3, x5, x9, x11] σ))
def B_Loader_nameAt_3 (X : Nat → List Int → AMem → Prop) (Q : Int → AMem → Prop) (x1 x3 x5 x9 x11 : Int) (σ : AMem) : Prop :=
  (if x11 < 1 then
  Q 0 σ
  else
  (if 20 < x11 then
    Q 0 σ
    else
    (if (w64 (x9 + x11)) < x5 then
      X 4 [2, x1, x3, x9, x11, 0] σ
      else
      Q 0 σ)))
def B_Loader_nameAt_4 (X : Nat → List Int → AMem → Prop) (Q : Int → AMem → Prop) (x1 x3 x9 x11 x12 : Int) (σ : AMem) : Prop :=
  (if x12 < x11 then
  am_r32 (20 * (σ 2 17)) ∧ am_r32 ((20 * (σ 2 17)) + x12) ∧ am_r32 ((w32 (w64 (x3 + x9))) + x12) ∧ (if ly_k (σ 2 13) = 2 then 0 ≤ ((w32 (w64 (x3 + x9))) + x12) ∧ ((w32 (w64 (x3 + x9))) + x12) < ly_l (σ 2 13) ∧ 0 ≤ ((20 * (σ 2 17)) + x12) ∧ ((20 * (σ 2 17)) + x12) < 54620 ∧ am_let (am_upd σ 14 ((20 * (σ 2 17)) + x12) (w8 (σ (σ 2 13) ((w32 (w64 (x3 + x9))) + x12)))) (fun σ6 => am_r32 (x12 + 1) ∧ X 4 [2, x1, x3, x9, x11, (x12 + 1)] σ6) else False)
  else
  0 ≤ (σ 2 17) ∧ (σ 2 17) < 2731 ∧ am_let (am_upd σ 13 (σ 2 17) x11) (fun σ1 => am_r32 ((σ1 2 17) + 1) ∧ am_let (am_upd σ1 2 17 ((σ1 2 17) + 1)) (fun σ2 => T_Loader_number [2, (w64 (x1 + 8)), 8] σ2 (fun r3 σ4 => 0 ≤ (σ1 2 17) ∧ (σ1 2 17) < 2731 ∧ am_let (am_upd σ4 12 (σ1 2 17) r3) (fun σ5 => Q 0 σ5)))))
def B_Loader_nameAt : (Nat → List Int → AMem → Prop) → (Int → AMem → Prop) → Nat → List Int → AMem → Prop := fun X Q j v σ => am_sel [(am_v4 (fun t x1 x3 x5 σ => if t = 2 then B_Loader_nameAt_0 X Q x1 x3 x5 σ else False)), (am_v5 (fun t x1 x3 x5 x9 σ => if t = 2 then B_Loader_nameAt_1 X Q x1 x3 x5 x9 σ else False)), (am_v6 (fun t x1 x3 x5 x9 x11 σ => if t = 2 then B_Loader_nameAt_2 X Q x1 x3 x5 x9 x11 σ else False)), (am_v6 (fun t x1 x3 x5 x9 x11 σ => if t = 2 then B_Loader_nameAt_3 X Q x1 x3 x5 x9 x11 σ else False)), (am_v6 (fun t x1 x3 x9 x11 x12 σ => if t = 2 then B_Loader_nameAt_4 X Q x1 x3 x9 x11 x12 σ else False))] j v σ
def T_Loader_nameAt : List Int → AMem → (Int → AMem → Prop) → Prop := am_T B_Loader_nameAt
abbrev y_Loader_nameAt : MethodName := ⟨"LinkHouse$Loader", "nameAt", "(JJJ)V"⟩
def a_Loader_nameAt : AC := (128, (y_Loader_nameAt, prog_3_method_9_code, 13, (Option.none : Option Jvm.ClassFile.FieldType)), [2, 1, 1, 1], 3, false, { frames := 1, cells := 0, slots := 0, locals := 34 }, T_Loader_nameAt)
set_option maxRecDepth 100000 in
theorem ms_Loader_nameAt : am_MSp a_Loader_nameAt := am_ms_v 5063 2 5062 104007 1 rfl (by decide +kernel)
abbrev k_Loader_nameAt : List AC := [a_Loader_number]
set_option maxRecDepth 100000 in
theorem s_Loader_nameAt : (am_chkR { frames := 1, cells := 0, slots := 0, locals := 34 } k_Loader_nameAt && am_chkN c_Loader_nameAt { frames := 1, cells := 0, slots := 0, locals := 34 } && c_Loader_nameAt.all (am_chk "LinkHouse$Loader" prog_3_method_9_code 13 (Option.none : Option Jvm.ClassFile.FieldType) k_Loader_nameAt) && c_Loader_nameAt.all (am_chkL m_Loader_nameAt) && decide (m_Loader_nameAt[0]? = some (0, am_argp 0 [2, 1, 1, 1], [])) && decide (am_argn [2, 1, 1, 1] ≤ 13)) = true := by decide +kernel
set_option maxHeartbeats 150000 in
set_option maxRecDepth 100000 in
theorem h_Loader_nameAt : ∀ X Q j v σ, B_Loader_nameAt X Q j v σ → am_at GR k_Loader_nameAt c_Loader_nameAt m_Loader_nameAt X Q 125 j v σ := fun X Q => am_sel_all (P := fun j v σ => am_at GR k_Loader_nameAt c_Loader_nameAt m_Loader_nameAt X Q 125 j v σ) (⟨(am_v4_of (fun t x1 x3 x5 σ h => am_tk (fun e => by subst e; exact fun h => h) h)), ⟨(am_v5_of (fun t x1 x3 x5 x9 σ h => am_tk (fun e => by subst e; exact fun h => h) h)), ⟨(am_v6_of (fun t x1 x3 x5 x9 x11 σ h => am_tk (fun e => by subst e; exact fun h => h) h)), ⟨(am_v6_of (fun t x1 x3 x5 x9 x11 σ h => am_tk (fun e => by subst e; exact fun h => h) h)), ⟨(am_v6_of (fun t x1 x3 x9 x11 x12 σ h => am_tk (fun e => by subst e; exact fun h => h) h)), trivial⟩⟩⟩⟩⟩)
set_option maxRecDepth 100000 in
theorem S_Loader_nameAt (l : Launch) (w : AW) : am_S l w GR a_Loader_nameAt := am_sound (rt := 3) (cal := k_Loader_nameAt) 128 y_Loader_nameAt prog_3_method_9_code 13 (Option.none : Option Jvm.ClassFile.FieldType) [2, 1, 1, 1] false { frames := 1, cells := 0, slots := 0, locals := 34 } B_Loader_nameAt "LinkHouse$Loader" c_Loader_nameAt m_Loader_nameAt 125 ms_Loader_nameAt (by decide +kernel) rfl rfl (am_cal (S_Loader_number l w) (fun _ h => absurd h List.not_mem_nil)) s_Loader_nameAt h_Loader_nameAt
set_option maxRecDepth 100000 in
theorem of_Loader_nameAt {Q : Int → AMem → Prop} {x1 x3 x5 : Int} {σ : AMem} (h : ∀ X : Nat → List Int → AMem → Prop, (∀ (x1 x3 x5 : Int) (σ : AMem), B_Loader_nameAt_0 X Q x1 x3 x5 σ → X 0 [2, x1, x3, x5] σ) → (∀ (x1 x3 x5 x9 : Int) (σ : AMem), B_Loader_nameAt_1 X Q x1 x3 x5 x9 σ → X 1 [2, x1, x3, x5, x9] σ) → (∀ (x1 x3 x5 x9 x11 : Int) (σ : AMem), B_Loader_nameAt_2 X Q x1 x3 x5 x9 x11 σ → X 2 [2, x1, x3, x5, x9, x11] σ) → (∀ (x1 x3 x5 x9 x11 : Int) (σ : AMem), B_Loader_nameAt_3 X Q x1 x3 x5 x9 x11 σ → X 3 [2, x1, x3, x5, x9, x11] σ) → (∀ (x1 x3 x9 x11 x12 : Int) (σ : AMem), B_Loader_nameAt_4 X Q x1 x3 x9 x11 x12 σ → X 4 [2, x1, x3, x9, x11, x12] σ) → X 0 [2, x1, x3, x5] σ) : T_Loader_nameAt [2, x1, x3, x5] σ Q := fun X hX => h X (fun x1 x3 x5 σ h => hX 0 [2, x1, x3, x5] σ h) (fun x1 x3 x5 x9 σ h => hX 1 [2, x1, x3, x5, x9] σ h) (fun x1 x3 x5 x9 x11 σ h => hX 2 [2, x1, x3, x5, x9, x11] σ h) (fun x1 x3 x5 x9 x11 σ h => hX 3 [2, x1, x3, x5, x9, x11] σ h) (fun x1 x3 x9 x11 x12 σ h => hX 4 [2, x1, x3, x9, x11, x12] σ h)
def c_Loader_findNames : List aE := [(0, 1, .aload_n 0, 1, 0, 0, []), (1, 0, .iconst 0, 1, 0, 0, []), (2, 0, .putfield 127, 3, 1, 17, [0, 0, 55]), (5, 0, .aload_n 0, 1, 0, 0, []), (6, 0, .ldc2_w 109, 3, 40, 0, [5041]), (9, 0, .bipush 8, 2, 0, 0, []), (11, 0, .invokevirtual 64, 3, 124, 1, [5018]), (14, 0, .lstore_n 1, 1, 0, 0, []), (15, 0, .aload_n 0, 1, 0, 0, []), (16, 0, .ldc2_w 130, 3, 60, 0, [5055]), (19, 0, .iconst 2, 1, 0, 0, []), (20, 0, .invokevirtual 64, 3, 124, 1, [5018]), (23, 0, .lstore_n 3, 1, 0, 0, []), (24, 0, .aload_n 0, 1, 0, 0, []), (25, 0, .ldc2_w 132, 3, 58, 0, [5056]), (28, 0, .iconst 2, 1, 0, 0, []), (29, 0, .invokevirtual 64, 3, 124, 1, [5018]), (32, 0, .ldc2_w 134, 3, 64, 0, [5057]), (35, 0, .lcmp, 1, 0, 0, []), (36, 0, .ifCond .ne 30, 3, 0, 0, []), (39, 0, .lload_n 3, 1, 0, 0, []), (40, 0, .lconst 1, 1, 0, 0, []), (41, 0, .lcmp, 1, 0, 0, []), (42, 0, .ifCond .lt 24, 3, 0, 0, []), (45, 0, .lload_n 3, 1, 0, 0, []), (46, 0, .ldc2_w 96, 3, 24, 0, [5046]), (49, 0, .lcmp, 1, 0, 0, []), (50, 0, .ifCond .gt 16, 3, 0, 0, []), (53, 0, .aload_n 0, 1, 0, 0, []), (54, 0, .lload_n 1, 1, 0, 0, []), (55, 0, .ldc2_w 134, 3, 64, 0, [5057]), (58, 0, .lload_n 3, 1, 0, 0, []), (59, 0, .lmul, 1, 0, 0, []), (60, 0, .invokevirtual 88, 3, 125, 1, [5033]), (63, 0, .ifCond .ne 4, 3, 0, 0, []), (66, 0, .return_, 1, 0, 0, []), (67, 0, .ldc2_w 136, 3, 1, 1, [5058]), (70, 0, .lstore 5, 2, 0, 0, []), (72, 0, .lload_n 3, 1, 0, 0, []), (73, 0, .lconst 1, 1, 0, 0, []), (74, 0, .lsub, 1, 0, 0, []), (75, 0, .lstore 7, 2, 0, 0, []), (77, 2, .lload 7, 2, 0, 0, []), (79, 0, .lconst 0, 1, 0, 0, []), (80, 0, .lcmp, 1, 0, 0, []), (81, 0, .ifCond .lt 46, 3, 0, 0, []), (84, 0, .aload_n 0, 1, 0, 0, []), (85, 0, .lload_n 1, 1, 0, 0, []), (86, 0, .ldc2_w 134, 3, 64, 0, [5057]), (89, 0, .lload 7, 2, 0, 0, []), (91, 0, .lmul, 1, 0, 0, []), (92, 0, .ladd, 1, 0, 0, []), (93, 0, .ldc2_w 117, 3, 4, 0, [5045]), (96, 0, .ladd, 1, 0, 0, []), (97, 0, .iconst 4, 1, 0, 0, []), (98, 0, .invokevirtual 64, 3, 124, 1, [5018]), (101, 0, .ldc2_w 72, 3, 2, 0, [5025]), (104, 0, .lcmp, 1, 0, 0, []), (105, 0, .ifCond .ne 13, 3, 0, 0, []), (108, 0, .lload_n 1, 1, 0, 0, []), (109, 0, .ldc2_w 134, 3, 64, 0, [5057]), (112, 0, .lload 7, 2, 0, 0, []), (114, 0, .lmul, 1, 0, 0, []), (115, 0, .ladd, 1, 0, 0, []), (116, 0, .lstore 5, 2, 0, 0, []), (118, 3, .lload 7, 2, 0, 0, []), (120, 0, .lconst 1, 1, 0, 0, []), (121, 0, .lsub, 1, 0, 0, []), (122, 0, .lstore 7, 2, 0, 0, []), (124, 0, .goto (-47), 3, 0, 0, []), (127, 0, .lload 5, 2, 0, 0, []), (129, 0, .lconst 0, 1, 0, 0, []), (130, 0, .lcmp, 1, 0, 0, []), (131, 0, .ifCond .ge 4, 3, 0, 0, []), (134, 0, .return_, 1, 0, 0, []), (135, 0, .aload_n 0, 1, 0, 0, []), (136, 0, .lload 5, 2, 0, 0, []), (138, 0, .ldc2_w 84, 3, 32, 0, [5031]), (141, 0, .ladd, 1, 0, 0, []), (142, 0, .bipush 8, 2, 0, 0, []), (144, 0, .invokevirtual 64, 3, 124, 1, [5018]), (147, 0, .lstore 7, 2, 0, 0, []), (149, 0, .aload_n 0, 1, 0, 0, []), (150, 0, .lload 5, 2, 0, 0, []), (152, 0, .ldc2_w 96, 3, 24, 0, [5046]), (155, 0, .ladd, 1, 0, 0, []), (156, 0, .bipush 8, 2, 0, 0, []), (158, 0, .invokevirtual 64, 3, 124, 1, [5018]), (161, 0, .lstore 9, 2, 0, 0, []), (163, 0, .aload_n 0, 1, 0, 0, []), (164, 0, .lload 5, 2, 0, 0, []), (166, 0, .ldc2_w 109, 3, 40, 0, [5041]), (169, 0, .ladd, 1, 0, 0, []), (170, 0, .iconst 4, 1, 0, 0, []), (171, 0, .invokevirtual 64, 3, 124, 1, [5018]), (174, 0, .lstore 11, 2, 0, 0, []), (176, 0, .lload_n 1, 1, 0, 0, []), (177, 0, .ldc2_w 134, 3, 64, 0, [5057]), (180, 0, .lload 11, 2, 0, 0, []), (182, 0, .lmul, 1, 0, 0, []), (183, 0, .ladd, 1, 0, 0, []), (184, 0, .lstore 13, 2, 0, 0, []), (186, 0, .lload 11, 2, 0, 0, []), (188, 0, .lload_n 3, 1, 0, 0, []), (189, 0, .lcmp, 1, 0, 0, []), (190, 0, .ifCond .ge 83, 3, 0, 0, []), (193, 0, .aload_n 0, 1, 0, 0, []), (194, 0, .lload 13, 2, 0, 0, []), (196, 0, .ldc2_w 117, 3, 4, 0, [5045]), (199, 0, .ladd, 1, 0, 0, []), (200, 0, .iconst 4, 1, 0, 0, []), (201, 0, .invokevirtual 64, 3, 124, 1, [5018]), (204, 0, .ldc2_w 138, 3, 3, 0, [5059]), (207, 0, .lcmp, 1, 0, 0, []), (208, 0, .ifCond .ne 65, 3, 0, 0, []), (211, 0, .lload 7, 2, 0, 0, []), (213, 0, .ldc2_w 96, 3, 24, 0, [5046]), (216, 0, .lcmp, 1, 0, 0, []), (217, 0, .ifCond .lt 56, 3, 0, 0, []), (220, 0, .lload 7, 2, 0, 0, []), (222, 0, .ldc2_w 96, 3, 24, 0, [5046]), (225, 0, .lrem, 1, 0, 0, []), (226, 0, .lconst 0, 1, 0, 0, []), (227, 0, .lcmp, 1, 0, 0, []), (228, 0, .ifCond .ne 45, 3, 0, 0, []), (231, 0, .aload_n 0, 1, 0, 0, []), (232, 0, .lload 9, 2, 0, 0, []), (234, 0, .lload 7, 2, 0, 0, []), (236, 0, .invokevirtual 88, 3, 125, 1, [5033]), (239, 0, .ifCond .eq 34, 3, 0, 0, []), (242, 0, .aload_n 0, 1, 0, 0, []), (243, 0, .aload_n 0, 1, 0, 0, []), (244, 0, .lload 13, 2, 0, 0, []), (246, 0, .ldc2_w 96, 3, 24, 0, [5046]), (249, 0, .ladd, 1, 0, 0, []), (250, 0, .bipush 8, 2, 0, 0, []), (252, 0, .invokevirtual 64, 3, 124, 1, [5018]), (255, 0, .aload_n 0, 1, 0, 0, []), (256, 0, .lload 13, 2, 0, 0, []), (258, 0, .ldc2_w 84, 3, 32, 0, [5031]), (261, 0, .ladd, 1, 0, 0, []), (262, 0, .bipush 8, 2, 0, 0, []), (264, 0, .invokevirtual 64, 3, 124, 1, [5018]), (267, 0, .invokevirtual 88, 3, 125, 1, [5033]), (270, 0, .ifCond .ne 4, 3, 0, 0, []), (273, 0, .return_, 1, 0, 0, []), (274, 0, .lload 9, 2, 0, 0, []), (276, 0, .ldc2_w 96, 3, 24, 0, [5046]), (279, 0, .ladd, 1, 0, 0, []), (280, 0, .lstore 15, 2, 0, 0, []), (282, 4, .lload 15, 2, 0, 0, []), (284, 0, .lload 9, 2, 0, 0, []), (286, 0, .lload 7, 2, 0, 0, []), (288, 0, .ladd, 1, 0, 0, []), (289, 0, .lcmp, 1, 0, 0, []), (290, 0, .ifCond .ge 44, 3, 0, 0, []), (293, 0, .aload_n 0, 1, 0, 0, []), (294, 0, .lload 15, 2, 0, 0, []), (296, 0, .aload_n 0, 1, 0, 0, []), (297, 0, .lload 13, 2, 0, 0, []), (299, 0, .ldc2_w 96, 3, 24, 0, [5046]), (302, 0, .ladd, 1, 0, 0, []), (303, 0, .bipush 8, 2, 0, 0, []), (305, 0, .invokevirtual 64, 3, 124, 1, [5018]), (308, 0, .aload_n 0, 1, 0, 0, []), (309, 0, .lload 13, 2, 0, 0, []), (311, 0, .ldc2_w 84, 3, 32, 0, [5031]), (314, 0, .ladd, 1, 0, 0, []), (315, 0, .bipush 8, 2, 0, 0, []), (317, 0, .invokevirtual 64, 3, 124, 1, [5018]), (320, 0, .invokevirtual 140, 3, 128, 1, [5060]), (323, 0, .lload 15, 2, 0, 0, []), (325, 0, .ldc2_w 96, 3, 24, 0, [5046]), (328, 0, .ladd, 1, 0, 0, []), (329, 0, .lstore 15, 2, 0, 0, []), (331, 0, .goto (-49), 3, 0, 0, []), (334, 0, .return_, 1, 0, 0, [])]
def m_Loader_findNames : List aT := [(0, [(0, 2)], []), (77, [(0, 2), (1, 1), (3, 1), (5, 1), (7, 1)], []), (118, [(0, 2), (1, 1), (3, 1), (5, 1), (7, 1)], []), (282, [(0, 2), (7, 1), (9, 1), (13, 1), (15, 1)], [])]
def B_Loader_findNames_0 (X : Nat → List Int → AMem → Prop) (Q : Int → AMem → Prop) (σ : AMem) : Prop :=
  am_let (am_upd σ 2 17 0) (fun σ1 => T_Loader_number [2, 40, 8] σ1 (fun r2 σ3 => T_Loader_number [2, 60, 2] σ3 (fun r4 σ5 => T_Loader_number [2, 58, 2] σ5 (fun r6 σ7 => (if r6 = 64 then
  (if r4 < 1 then
    Q 0 σ7
    else
    (if 24 < r4 then
      Q 0 σ7
      else
      T_Loader_lies [2, r2, (w64 (64 * r4))] σ7 (fun r8 σ9 => (if r8 = 0 then
        Q 0 σ9
        else
        X 1 [2, r2, r4, (-1), (w64 (r4 - 1))] σ9))))
  else
  Q 0 σ7)))))
def B_Loader_findNames_1 (X : Nat → List Int → AMem → Prop) (Q : Int → AMem → Prop) (x1 x3 x5 x7 : Int) (σ : AMem) : Prop :=
  (if x7 < 0 then
  (if x5 < 0 then
    Q 0 σ
    else
    T_Loader_number [2, (w64 (x5 + 32)), 8] σ (fun r1 σ2 => T_Loader_number [2, (w64 (x5 + 24)), 8] σ2 (fun r3 σ4 => T_Loader_number [2, (w64 (x5 + 40)), 4] σ4 (fun r5 σ6 => am_let (w64 (x1 + (w64 (64 * r5)))) (fun y7 => (if r5 < x3 then
      T_Loader_number [2, (w64 (y7 + 4)), 4] σ6 (fun r8 σ9 => (if r8 = 3 then
        (if r1 < 24 then
          Q 0 σ9
          else
          (0 : Int) < 24 ∧ (if (r1.tmod 24) = 0 then
            T_Loader_lies [2, r3, r1] σ9 (fun r10 σ11 => (if r10 = 0 then
              Q 0 σ11
              else
              T_Loader_number [2, (w64 (y7 + 24)), 8] σ11 (fun r12 σ13 => T_Loader_number [2, (w64 (y7 + 32)), 8] σ13 (fun r14 σ15 => T_Loader_lies [2, r12, r14] σ15 (fun r16 σ17 => (if r16 = 0 then
                Q 0 σ17
                else
                X 3 [2, r1, r3, y7, (w64 (r3 + 24))] σ17))))))
            else
            Q 0 σ9))
        else
        Q 0 σ9))
      else
      Q 0 σ6))))))
  else
  T_Loader_number [2, (w64 ((w64 (x1 + (w64 (64 * x7)))) + 4)), 4] σ (fun r18 σ19 => (if r18 = 2 then
    am_let (w64 (x1 + (w64 (64 * x7)))) (fun y20 => X 2 [2, x1, x3, y20, x7] σ19)
    else
    X 2 [2, x1, x3, x5, x7] σ19)))
def B_Loader_findNames_2 (X : Nat → List Int → AMem → Prop) (Q : Int → AMem → Prop) (x1 x3 x5 x7 : Int) (σ : AMem) : Prop :=
  X 1 [2, x1, x3, x5, (w64 (x7 - 1))] σ
def B_Loader_findNames_3 (X : Nat → List Int → AMem → Prop) (Q : Int → AMem → Prop) (x7 x9 x13 x15 : Int) (σ : AMem) : Prop :=
  (if x15 < (w64 (x9 + x7)) then
  T_Loader_number [2, (w64 (x13 + 24)), 8] σ (fun r1 σ2 => T_Loader_number [2, (w64 (x13 + 32)), 8] σ2 (fun r3 σ4 => T_Loader_nameAt [2, x15, r1, r3] σ4 (fun r5 σ6 => X 3 [2, x7, x9, x13, (w64 (x15 + 24))] σ6)))
  else
  Q 0 σ)
def B_Loader_findNames : (Nat → List Int → AMem → Prop) → (Int → AMem → Prop) → Nat → List Int → AMem → Prop := fun X Q j v σ => am_sel [(am_v1 (fun t σ => if t = 2 then B_Loader_findNames_0 X Q σ else False)), (am_v5 (fun t x1 x3 x5 x7 σ => if t = 2 then B_Loader_findNames_1 X Q x1 x3 x5 x7 σ else False)), (am_v5 (fun t x1 x3 x5 x7 σ => if t = 2 then B_Loader_findNames_2 X Q x1 x3 x5 x7 σ else False)), (am_v5 (fun t x7 x9 x13 x15 σ => if t = 2 then B_Loader_findNames_3 X Q x7 x9 x13 x15 σ else False))] j v σ
def T_Loader_findNames : List Int → AMem → (Int → AMem → Prop) → Prop := am_T B_Loader_findNames
abbrev y_Loader_findNames : MethodName := ⟨"LinkHouse$Loader", "findNames", "()V"⟩
def a_Loader_findNames : AC := (129, (y_Loader_findNames, prog_3_method_8_code, 17, (Option.none : Option Jvm.ClassFile.FieldType)), [2], 3, false, { frames := 2, cells := 0, slots := 0, locals := 74 }, T_Loader_findNames)
set_option maxRecDepth 100000 in
theorem ms_Loader_findNames : am_MSp a_Loader_findNames := am_ms_v 5054 2 5053 104006 1 rfl (by decide +kernel)
abbrev k_Loader_findNames : List AC := [a_Loader_number, a_Loader_lies, a_Loader_nameAt]
set_option maxRecDepth 100000 in
theorem s_Loader_findNames : (am_chkR { frames := 2, cells := 0, slots := 0, locals := 74 } k_Loader_findNames && am_chkN c_Loader_findNames { frames := 2, cells := 0, slots := 0, locals := 74 } && c_Loader_findNames.all (am_chk "LinkHouse$Loader" prog_3_method_8_code 17 (Option.none : Option Jvm.ClassFile.FieldType) k_Loader_findNames) && c_Loader_findNames.all (am_chkL m_Loader_findNames) && decide (m_Loader_findNames[0]? = some (0, am_argp 0 [2], [])) && decide (am_argn [2] ≤ 17)) = true := by decide +kernel
set_option maxHeartbeats 150000 in
set_option maxRecDepth 100000 in
theorem h_Loader_findNames : ∀ X Q j v σ, B_Loader_findNames X Q j v σ → am_at GR k_Loader_findNames c_Loader_findNames m_Loader_findNames X Q 182 j v σ := fun X Q => am_sel_all (P := fun j v σ => am_at GR k_Loader_findNames c_Loader_findNames m_Loader_findNames X Q 182 j v σ) (⟨(am_v1_of (fun t σ h => am_tk (fun e => by subst e; exact fun h => h) h)), ⟨(am_v5_of (fun t x1 x3 x5 x7 σ h => am_tk (fun e => by subst e; exact fun h => h) h)), ⟨(am_v5_of (fun t x1 x3 x5 x7 σ h => am_tk (fun e => by subst e; exact fun h => h) h)), ⟨(am_v5_of (fun t x7 x9 x13 x15 σ h => am_tk (fun e => by subst e; exact fun h => h) h)), trivial⟩⟩⟩⟩)
set_option maxRecDepth 100000 in
theorem S_Loader_findNames (l : Launch) (w : AW) : am_S l w GR a_Loader_findNames := am_sound (rt := 3) (cal := k_Loader_findNames) 129 y_Loader_findNames prog_3_method_8_code 17 (Option.none : Option Jvm.ClassFile.FieldType) [2] false { frames := 2, cells := 0, slots := 0, locals := 74 } B_Loader_findNames "LinkHouse$Loader" c_Loader_findNames m_Loader_findNames 182 ms_Loader_findNames (by decide +kernel) rfl rfl (am_cal (S_Loader_number l w) (am_cal (S_Loader_lies l w) (am_cal (S_Loader_nameAt l w) (fun _ h => absurd h List.not_mem_nil)))) s_Loader_findNames h_Loader_findNames
set_option maxRecDepth 100000 in
theorem of_Loader_findNames {Q : Int → AMem → Prop} {σ : AMem} (h : ∀ X : Nat → List Int → AMem → Prop, (∀ (σ : AMem), B_Loader_findNames_0 X Q σ → X 0 [2] σ) → (∀ (x1 x3 x5 x7 : Int) (σ : AMem), B_Loader_findNames_1 X Q x1 x3 x5 x7 σ → X 1 [2, x1, x3, x5, x7] σ) → (∀ (x1 x3 x5 x7 : Int) (σ : AMem), B_Loader_findNames_2 X Q x1 x3 x5 x7 σ → X 2 [2, x1, x3, x5, x7] σ) → (∀ (x7 x9 x13 x15 : Int) (σ : AMem), B_Loader_findNames_3 X Q x7 x9 x13 x15 σ → X 3 [2, x7, x9, x13, x15] σ) → X 0 [2] σ) : T_Loader_findNames [2] σ Q := fun X hX => h X (fun σ h => hX 0 [2] σ h) (fun x1 x3 x5 x7 σ h => hX 1 [2, x1, x3, x5, x7] σ h) (fun x1 x3 x5 x7 σ h => hX 2 [2, x1, x3, x5, x7] σ h) (fun x7 x9 x13 x15 σ h => hX 3 [2, x7, x9, x13, x15] σ h)
def c_Loader_keep : List aE := [(0, 1, .aload_n 0, 1, 0, 0, []), (1, 0, .aload_n 0, 1, 0, 0, []), (2, 0, .getfield 61, 3, 1, 11, [0, 0, 47]), (5, 0, .putfield 119, 3, 1, 9, [0, 0, 44]), (8, 0, .aload_n 0, 1, 0, 0, []), (9, 0, .aload_n 0, 1, 0, 0, []), (10, 0, .ldc2_w 96, 3, 24, 0, [5046]), (13, 0, .bipush 8, 2, 0, 0, []), (15, 0, .invokevirtual 64, 3, 124, 1, [5018]), (18, 0, .putfield 122, 3, 1, 12, [1, 0, 48]), (21, 0, .iconst 0, 1, 0, 0, []), (22, 0, .istore_n 1, 1, 0, 0, []), (23, 2, .iload_n 1, 1, 0, 0, []), (24, 0, .aload_n 0, 1, 0, 0, []), (25, 0, .getfield 119, 3, 1, 9, [0, 0, 44]), (28, 0, .if_icmp .ge 106, 3, 0, 0, []), (31, 0, .aload_n 0, 1, 0, 0, []), (32, 0, .getfield 16, 3, 1, 1, [2, 0, 35]), (35, 0, .iload_n 1, 1, 0, 0, []), (36, 0, .aload_n 0, 1, 0, 0, []), (37, 0, .getfield 26, 3, 1, 4, [2, 0, 39]), (40, 0, .iload_n 1, 1, 0, 0, []), (41, 0, .laload, 1, 0, 0, []), (42, 0, .lastore, 1, 0, 0, []), (43, 0, .aload_n 0, 1, 0, 0, []), (44, 0, .getfield 20, 3, 1, 2, [2, 0, 36]), (47, 0, .iload_n 1, 1, 0, 0, []), (48, 0, .aload_n 0, 1, 0, 0, []), (49, 0, .getfield 29, 3, 1, 5, [2, 0, 40]), (52, 0, .iload_n 1, 1, 0, 0, []), (53, 0, .laload, 1, 0, 0, []), (54, 0, .lastore, 1, 0, 0, []), (55, 0, .aload_n 0, 1, 0, 0, []), (56, 0, .getfield 23, 3, 1, 3, [2, 0, 37]), (59, 0, .iload_n 1, 1, 0, 0, []), (60, 0, .aload_n 0, 1, 0, 0, []), (61, 0, .getfield 32, 3, 1, 6, [2, 0, 41]), (64, 0, .iload_n 1, 1, 0, 0, []), (65, 0, .laload, 1, 0, 0, []), (66, 0, .lastore, 1, 0, 0, []), (67, 0, .iconst 0, 1, 0, 0, []), (68, 0, .istore_n 2, 1, 0, 0, []), (69, 3, .iload_n 2, 1, 0, 0, []), (70, 0, .i2l, 1, 0, 0, []), (71, 0, .aload_n 0, 1, 0, 0, []), (72, 0, .getfield 20, 3, 1, 2, [2, 0, 36]), (75, 0, .iload_n 1, 1, 0, 0, []), (76, 0, .laload, 1, 0, 0, []), (77, 0, .lcmp, 1, 0, 0, []), (78, 0, .ifCond .ge 50, 3, 0, 0, []), (81, 0, .aload_n 0, 1, 0, 0, []), (82, 0, .getfield 12, 3, 1, 0, [2, 0, 34]), (85, 0, .iload_n 1, 1, 0, 0, []), (86, 0, .ldc 126, 2, 65536, 0, [5069]), (88, 0, .imul, 1, 0, 0, []), (89, 0, .iload_n 2, 1, 0, 0, []), (90, 0, .iadd, 1, 0, 0, []), (91, 0, .iload_n 2, 1, 0, 0, []), (92, 0, .i2l, 1, 0, 0, []), (93, 0, .aload_n 0, 1, 0, 0, []), (94, 0, .getfield 35, 3, 1, 7, [2, 0, 42]), (97, 0, .iload_n 1, 1, 0, 0, []), (98, 0, .laload, 1, 0, 0, []), (99, 0, .lcmp, 1, 0, 0, []), (100, 0, .ifCond .ge 20, 3, 0, 0, []), (103, 0, .aload_n 0, 1, 0, 0, []), (104, 0, .getfield 52, 3, 1, 13, [2, 0, 50]), (107, 0, .aload_n 0, 1, 0, 0, []), (108, 0, .getfield 38, 3, 1, 8, [2, 0, 43]), (111, 0, .iload_n 1, 1, 0, 0, []), (112, 0, .laload, 1, 0, 0, []), (113, 0, .l2i, 1, 0, 0, []), (114, 0, .iload_n 2, 1, 0, 0, []), (115, 0, .iadd, 1, 0, 0, []), (116, 0, .baload, 1, 2, 0, []), (117, 0, .goto 4, 3, 0, 0, []), (120, 0, .iconst 0, 1, 0, 0, []), (121, 4, .bastore, 1, 2, 0, []), (122, 0, .iinc 2 1, 3, 0, 0, []), (125, 0, .goto (-56), 3, 0, 0, []), (128, 0, .iinc 1 1, 3, 0, 0, []), (131, 0, .goto (-108), 3, 0, 0, []), (134, 0, .iconst 0, 1, 0, 0, []), (135, 0, .ireturn, 1, 0, 0, [])]
def m_Loader_keep : List aT := [(0, [(0, 2)], []), (23, [(0, 2), (1, 0)], []), (69, [(0, 2), (1, 0), (2, 0)], []), (121, [(0, 2), (1, 0), (2, 0)], [0, 0, 2])]
def B_Loader_keep_0 (X : Nat → List Int → AMem → Prop) (Q : Int → AMem → Prop) (σ : AMem) : Prop :=
  am_let (am_upd σ 2 9 (σ 2 11)) (fun σ1 => T_Loader_number [2, 24, 8] σ1 (fun r2 σ3 => am_let (am_upd σ3 2 12 r2) (fun σ4 => X 1 [2, 0] σ4)))
def B_Loader_keep_1 (X : Nat → List Int → AMem → Prop) (Q : Int → AMem → Prop) (x1 : Int) (σ : AMem) : Prop :=
  (if x1 < (σ 2 9) then
  0 ≤ x1 ∧ x1 < 8 ∧ 0 ≤ x1 ∧ x1 < 8 ∧ am_let (am_upd σ 4 x1 (σ 7 x1)) (fun σ1 => 0 ≤ x1 ∧ x1 < 8 ∧ 0 ≤ x1 ∧ x1 < 8 ∧ am_let (am_upd σ1 5 x1 (σ1 8 x1)) (fun σ2 => 0 ≤ x1 ∧ x1 < 8 ∧ 0 ≤ x1 ∧ x1 < 8 ∧ am_let (am_upd σ2 6 x1 (σ2 9 x1)) (fun σ3 => X 2 [2, x1, 0] σ3)))
  else
  Q 0 σ)
def B_Loader_keep_2 (X : Nat → List Int → AMem → Prop) (Q : Int → AMem → Prop) (x1 x2 : Int) (σ : AMem) : Prop :=
  0 ≤ x1 ∧ x1 < 8 ∧ (if x2 < (σ 5 x1) then
  am_r32 (x1 * 65536) ∧ am_r32 ((x1 * 65536) + x2) ∧ 0 ≤ x1 ∧ x1 < 8 ∧ (if x2 < (σ 10 x1) then
    0 ≤ x1 ∧ x1 < 8 ∧ am_r32 ((w32 (σ 11 x1)) + x2) ∧ (if ly_k (σ 2 13) = 2 then 0 ≤ ((w32 (σ 11 x1)) + x2) ∧ ((w32 (σ 11 x1)) + x2) < ly_l (σ 2 13) ∧ X 3 [2, x1, x2, (σ (σ 2 13) ((w32 (σ 11 x1)) + x2)), ((x1 * 65536) + x2), 3] σ else False)
    else
    X 3 [2, x1, x2, 0, ((x1 * 65536) + x2), 3] σ)
  else
  am_r32 (x1 + 1) ∧ X 1 [2, (x1 + 1)] σ)
def B_Loader_keep_3 (X : Nat → List Int → AMem → Prop) (Q : Int → AMem → Prop) (x1 x2 s0 s1 s2 : Int) (σ : AMem) : Prop :=
  (if ly_k s2 = 2 then 0 ≤ s1 ∧ s1 < ly_l s2 ∧ am_let (am_upd σ s2 s1 (w8 s0)) (fun σ1 => am_r32 (x2 + 1) ∧ X 2 [2, x1, (x2 + 1)] σ1) else False)
def B_Loader_keep : (Nat → List Int → AMem → Prop) → (Int → AMem → Prop) → Nat → List Int → AMem → Prop := fun X Q j v σ => am_sel [(am_v1 (fun t σ => if t = 2 then B_Loader_keep_0 X Q σ else False)), (am_v2 (fun t x1 σ => if t = 2 then B_Loader_keep_1 X Q x1 σ else False)), (am_v3 (fun t x1 x2 σ => if t = 2 then B_Loader_keep_2 X Q x1 x2 σ else False)), (am_v6 (fun t x1 x2 s0 s1 s2 σ => if t = 2 then B_Loader_keep_3 X Q x1 x2 s0 s1 s2 σ else False))] j v σ
def T_Loader_keep : List Int → AMem → (Int → AMem → Prop) → Prop := am_T B_Loader_keep
abbrev y_Loader_keep : MethodName := ⟨"LinkHouse$Loader", "keep", "()I"⟩
def a_Loader_keep : AC := (130, (y_Loader_keep, prog_3_method_7_code, 3, (Option.some Jvm.ClassFile.FieldType.int)), [2], 0, false, { frames := 1, cells := 0, slots := 0, locals := 34 }, T_Loader_keep)
set_option maxRecDepth 100000 in
theorem ms_Loader_keep : am_MSp a_Loader_keep := am_ms_v 5068 2 5067 104008 1 rfl (by decide +kernel)
abbrev k_Loader_keep : List AC := [a_Loader_number]
set_option maxRecDepth 100000 in
theorem s_Loader_keep : (am_chkR { frames := 1, cells := 0, slots := 0, locals := 34 } k_Loader_keep && am_chkN c_Loader_keep { frames := 1, cells := 0, slots := 0, locals := 34 } && c_Loader_keep.all (am_chk "LinkHouse$Loader" prog_3_method_7_code 3 (Option.some Jvm.ClassFile.FieldType.int) k_Loader_keep) && c_Loader_keep.all (am_chkL m_Loader_keep) && decide (m_Loader_keep[0]? = some (0, am_argp 0 [2], [])) && decide (am_argn [2] ≤ 3)) = true := by decide +kernel
set_option maxHeartbeats 150000 in
set_option maxRecDepth 100000 in
theorem h_Loader_keep : ∀ X Q j v σ, B_Loader_keep X Q j v σ → am_at GR k_Loader_keep c_Loader_keep m_Loader_keep X Q 89 j v σ := fun X Q => am_sel_all (P := fun j v σ => am_at GR k_Loader_keep c_Loader_keep m_Loader_keep X Q 89 j v σ) (⟨(am_v1_of (fun t σ h => am_tk (fun e => by subst e; exact fun h => h) h)), ⟨(am_v2_of (fun t x1 σ h => am_tk (fun e => by subst e; exact fun h => h) h)), ⟨(am_v3_of (fun t x1 x2 σ h => am_tk (fun e => by subst e; exact fun h => h) h)), ⟨(am_v6_of (fun t x1 x2 s0 s1 s2 σ h => am_tk (fun e => by subst e; exact fun h => h) h)), trivial⟩⟩⟩⟩)
set_option maxRecDepth 100000 in
theorem S_Loader_keep (l : Launch) (w : AW) : am_S l w GR a_Loader_keep := am_sound (rt := 0) (cal := k_Loader_keep) 130 y_Loader_keep prog_3_method_7_code 3 (Option.some Jvm.ClassFile.FieldType.int) [2] false { frames := 1, cells := 0, slots := 0, locals := 34 } B_Loader_keep "LinkHouse$Loader" c_Loader_keep m_Loader_keep 89 ms_Loader_keep (by decide +kernel) rfl rfl (am_cal (S_Loader_number l w) (fun _ h => absurd h List.not_mem_nil)) s_Loader_keep h_Loader_keep
set_option maxRecDepth 100000 in
theorem of_Loader_keep {Q : Int → AMem → Prop} {σ : AMem} (h : ∀ X : Nat → List Int → AMem → Prop, (∀ (σ : AMem), B_Loader_keep_0 X Q σ → X 0 [2] σ) → (∀ (x1 : Int) (σ : AMem), B_Loader_keep_1 X Q x1 σ → X 1 [2, x1] σ) → (∀ (x1 x2 : Int) (σ : AMem), B_Loader_keep_2 X Q x1 x2 σ → X 2 [2, x1, x2] σ) → (∀ (x1 x2 s0 s1 s2 : Int) (σ : AMem), B_Loader_keep_3 X Q x1 x2 s0 s1 s2 σ → X 3 [2, x1, x2, s0, s1, s2] σ) → X 0 [2] σ) : T_Loader_keep [2] σ Q := fun X hX => h X (fun σ h => hX 0 [2] σ h) (fun x1 σ h => hX 1 [2, x1] σ h) (fun x1 x2 σ h => hX 2 [2, x1, x2] σ h) (fun x1 x2 s0 s1 s2 σ h => hX 3 [2, x1, x2, s0, s1, s2] σ h)
