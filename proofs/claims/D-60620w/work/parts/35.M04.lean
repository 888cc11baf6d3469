/-! methods: printed by gen/all.py -/
def c_Model_come : List aE := [(0, 1, .aload_n 0, 1, 0, 0, []), (1, 0, .iload_n 2, 1, 0, 0, []), (2, 0, .iload_n 3, 1, 0, 0, []), (3, 0, .invokevirtual 513, 3, 239, 8, [9132]), (6, 0, .istore 4, 2, 0, 0, []), (8, 0, .aload_n 0, 1, 0, 0, []), (9, 0, .iload_n 1, 1, 0, 0, []), (10, 0, .iload_n 3, 1, 0, 0, []), (11, 0, .invokevirtual 516, 3, 241, 8, [9140]), (14, 0, .istore 5, 2, 0, 0, []), (16, 0, .iload 5, 2, 0, 0, []), (18, 0, .ifCond .ne 37, 3, 0, 0, []), (21, 0, .aload_n 0, 1, 0, 0, []), (22, 0, .getfield 75, 3, 8, 28, [2, 0, 6217]), (25, 0, .iload 4, 2, 0, 0, []), (27, 0, .aload_n 0, 1, 0, 0, []), (28, 0, .getfield 75, 3, 8, 28, [2, 0, 6217]), (31, 0, .iload 4, 2, 0, 0, []), (33, 0, .baload, 1, 3, 0, []), (34, 0, .ifCond .ne 13, 3, 0, 0, []), (37, 0, .aload_n 0, 1, 0, 0, []), (38, 0, .iload_n 2, 1, 0, 0, []), (39, 0, .iload_n 3, 1, 0, 0, []), (40, 0, .invokevirtual 375, 3, 201, 8, [8213]), (43, 0, .iconst 1, 1, 0, 0, []), (44, 0, .if_icmp .ne 7, 3, 0, 0, []), (47, 0, .iconst 1, 1, 0, 0, []), (48, 0, .goto 4, 3, 0, 0, []), (51, 0, .iconst 0, 1, 0, 0, []), (52, 0, .bastore, 1, 3, 0, []), (53, 0, .iconst 1, 1, 0, 0, []), (54, 0, .ireturn, 1, 1, 0, []), (55, 0, .iload 5, 2, 0, 0, []), (57, 0, .iconst 3, 1, 0, 0, []), (58, 0, .if_icmp .ne 16, 3, 0, 0, []), (61, 0, .aload_n 0, 1, 0, 0, []), (62, 0, .getfield 60, 3, 8, 23, [2, 0, 6212]), (65, 0, .iload 4, 2, 0, 0, []), (67, 0, .iaload, 1, 0, 0, []), (68, 0, .iconst 3, 1, 0, 0, []), (69, 0, .if_icmp .ne 5, 3, 0, 0, []), (72, 0, .iconst 0, 1, 0, 0, []), (73, 0, .ireturn, 1, 1, 0, []), (74, 2, .aload_n 0, 1, 0, 0, []), (75, 0, .getfield 60, 3, 8, 23, [2, 0, 6212]), (78, 0, .iload 4, 2, 0, 0, []), (80, 0, .iaload, 1, 0, 0, []), (81, 0, .ifCond .ne 24, 3, 0, 0, []), (84, 0, .aload_n 0, 1, 0, 0, []), (85, 0, .getfield 124, 3, 8, 49, [2, 0, 6238]), (88, 0, .aload_n 0, 1, 0, 0, []), (89, 0, .getfield 489, 3, 8, 48, [0, 0, 6237]), (92, 0, .iload 4, 2, 0, 0, []), (94, 0, .iastore, 1, 0, 0, []), (95, 0, .aload_n 0, 1, 0, 0, []), (96, 0, .dup, 1, 0, 0, []), (97, 0, .getfield 489, 3, 8, 48, [0, 0, 6237]), (100, 0, .iconst 1, 1, 0, 0, []), (101, 0, .iadd, 1, 0, 0, []), (102, 0, .putfield 489, 3, 8, 48, [0, 0, 6237]), (105, 3, .iload 5, 2, 0, 0, []), (107, 0, .iconst 2, 1, 0, 0, []), (108, 0, .if_icmp .ne 96, 3, 0, 0, []), (111, 0, .aload_n 0, 1, 0, 0, []), (112, 0, .getfield 60, 3, 8, 23, [2, 0, 6212]), (115, 0, .iload 4, 2, 0, 0, []), (117, 0, .iaload, 1, 0, 0, []), (118, 0, .iconst 2, 1, 0, 0, []), (119, 0, .if_icmp .ne 85, 3, 0, 0, []), (122, 0, .aload_n 0, 1, 0, 0, []), (123, 0, .getfield 69, 3, 8, 26, [2, 0, 6215]), (126, 0, .iload 4, 2, 0, 0, []), (128, 0, .aload_n 0, 1, 0, 0, []), (129, 0, .iload_n 2, 1, 0, 0, []), (130, 0, .iload_n 3, 1, 0, 0, []), (131, 0, .invokevirtual 386, 3, 204, 8, [8227]), (134, 0, .l2i, 1, 0, 0, []), (135, 0, .aload_n 0, 1, 0, 0, []), (136, 0, .getfield 69, 3, 8, 26, [2, 0, 6215]), (139, 0, .iload 4, 2, 0, 0, []), (141, 0, .iaload, 1, 0, 0, []), (142, 0, .if_icmp .le 13, 3, 0, 0, []), (145, 0, .aload_n 0, 1, 0, 0, []), (146, 0, .iload_n 2, 1, 0, 0, []), (147, 0, .iload_n 3, 1, 0, 0, []), (148, 0, .invokevirtual 386, 3, 204, 8, [8227]), (151, 0, .l2i, 1, 0, 0, []), (152, 0, .goto 10, 3, 0, 0, []), (155, 0, .aload_n 0, 1, 0, 0, []), (156, 0, .getfield 69, 3, 8, 26, [2, 0, 6215]), (159, 0, .iload 4, 2, 0, 0, []), (161, 0, .iaload, 1, 0, 0, []), (162, 4, .iastore, 1, 0, 0, []), (163, 0, .aload_n 0, 1, 0, 0, []), (164, 0, .getfield 72, 3, 8, 27, [2, 0, 6216]), (167, 0, .iload 4, 2, 0, 0, []), (169, 0, .aload_n 0, 1, 0, 0, []), (170, 0, .iload_n 2, 1, 0, 0, []), (171, 0, .iload_n 3, 1, 0, 0, []), (172, 0, .invokevirtual 383, 3, 203, 8, [8223]), (175, 0, .l2i, 1, 0, 0, []), (176, 0, .aload_n 0, 1, 0, 0, []), (177, 0, .getfield 72, 3, 8, 27, [2, 0, 6216]), (180, 0, .iload 4, 2, 0, 0, []), (182, 0, .iaload, 1, 0, 0, []), (183, 0, .if_icmp .le 13, 3, 0, 0, []), (186, 0, .aload_n 0, 1, 0, 0, []), (187, 0, .iload_n 2, 1, 0, 0, []), (188, 0, .iload_n 3, 1, 0, 0, []), (189, 0, .invokevirtual 383, 3, 203, 8, [8223]), (192, 0, .l2i, 1, 0, 0, []), (193, 0, .goto 10, 3, 0, 0, []), (196, 0, .aload_n 0, 1, 0, 0, []), (197, 0, .getfield 72, 3, 8, 27, [2, 0, 6216]), (200, 0, .iload 4, 2, 0, 0, []), (202, 0, .iaload, 1, 0, 0, []), (203, 5, .iastore, 1, 0, 0, []), (204, 6, .iload 5, 2, 0, 0, []), (206, 0, .aload_n 0, 1, 0, 0, []), (207, 0, .getfield 60, 3, 8, 23, [2, 0, 6212]), (210, 0, .iload 4, 2, 0, 0, []), (212, 0, .iaload, 1, 0, 0, []), (213, 0, .if_icmp .gt 5, 3, 0, 0, []), (216, 0, .iconst 1, 1, 0, 0, []), (217, 0, .ireturn, 1, 1, 0, []), (218, 0, .aload_n 0, 1, 0, 0, []), (219, 0, .getfield 60, 3, 8, 23, [2, 0, 6212]), (222, 0, .iload 4, 2, 0, 0, []), (224, 0, .iload 5, 2, 0, 0, []), (226, 0, .iastore, 1, 0, 0, []), (227, 0, .aload_n 0, 1, 0, 0, []), (228, 0, .getfield 63, 3, 8, 24, [2, 0, 6213]), (231, 0, .iload 4, 2, 0, 0, []), (233, 0, .iload_n 1, 1, 0, 0, []), (234, 0, .iastore, 1, 0, 0, []), (235, 0, .aload_n 0, 1, 0, 0, []), (236, 0, .getfield 66, 3, 8, 25, [2, 0, 6214]), (239, 0, .iload 4, 2, 0, 0, []), (241, 0, .iload_n 3, 1, 0, 0, []), (242, 0, .iastore, 1, 0, 0, []), (243, 0, .aload_n 0, 1, 0, 0, []), (244, 0, .getfield 69, 3, 8, 26, [2, 0, 6215]), (247, 0, .iload 4, 2, 0, 0, []), (249, 0, .iload 5, 2, 0, 0, []), (251, 0, .iconst 2, 1, 0, 0, []), (252, 0, .if_icmp .ne 13, 3, 0, 0, []), (255, 0, .aload_n 0, 1, 0, 0, []), (256, 0, .iload_n 2, 1, 0, 0, []), (257, 0, .iload_n 3, 1, 0, 0, []), (258, 0, .invokevirtual 386, 3, 204, 8, [8227]), (261, 0, .l2i, 1, 0, 0, []), (262, 0, .goto 4, 3, 0, 0, []), (265, 0, .iconst 0, 1, 0, 0, []), (266, 7, .iastore, 1, 0, 0, []), (267, 0, .aload_n 0, 1, 0, 0, []), (268, 0, .getfield 72, 3, 8, 27, [2, 0, 6216]), (271, 0, .iload 4, 2, 0, 0, []), (273, 0, .iload 5, 2, 0, 0, []), (275, 0, .iconst 2, 1, 0, 0, []), (276, 0, .if_icmp .ne 13, 3, 0, 0, []), (279, 0, .aload_n 0, 1, 0, 0, []), (280, 0, .iload_n 2, 1, 0, 0, []), (281, 0, .iload_n 3, 1, 0, 0, []), (282, 0, .invokevirtual 383, 3, 203, 8, [8223]), (285, 0, .l2i, 1, 0, 0, []), (286, 0, .goto 4, 3, 0, 0, []), (289, 0, .iconst 0, 1, 0, 0, []), (290, 0, .iastore, 1, 0, 0, []), (291, 0, .iconst 1, 1, 0, 0, []), (292, 0, .ireturn, 1, 1, 0, [])]
def m_Model_come : List aT := [(0, [(0, 2), (1, 0), (2, 0), (3, 0)], []), (74, [(0, 2), (1, 0), (2, 0), (3, 0), (4, 0), (5, 0)], []), (105, [(0, 2), (1, 0), (2, 0), (3, 0), (4, 0), (5, 0)], []), (162, [(0, 2), (1, 0), (2, 0), (3, 0), (4, 0), (5, 0)], [0, 0, 2]), (203, [(0, 2), (1, 0), (2, 0), (3, 0), (4, 0), (5, 0)], [0, 0, 2]), (204, [(0, 2), (1, 0), (2, 0), (3, 0), (4, 0), (5, 0)], []), (266, [(0, 2), (2, 0), (3, 0), (4, 0), (5, 0)], [0, 0, 2])]
def B_Model_come_0 (X : Nat → List Int → AMem → Prop) (Q : Int → AMem → Prop) (x1 x2 x3 : Int) (σ : AMem) : Prop :=
  T_Model_enter [9790, x2, x3] σ (fun r1 σ2 => T_Model_strengthOf [9790, x1, x3] σ2 (fun r3 σ4 => (if r3 = 0 then
  0 ≤ r1 ∧ r1 < 4096 ∧ (if (σ4 9810 r1) = 0 then
    T_Model_bind [9790, x2, x3] σ4 (fun r6 σ7 => (if r6 = 1 then
      0 ≤ r1 ∧ r1 < 4096 ∧ am_let (am_upd σ7 9810 r1 1) (fun σ9 => Q 1 σ9)
      else
      0 ≤ r1 ∧ r1 < 4096 ∧ am_let (am_upd σ7 9810 r1 0) (fun σ8 => Q 1 σ8)))
    else
    0 ≤ r1 ∧ r1 < 4096 ∧ am_let (am_upd σ4 9810 r1 1) (fun σ5 => Q 1 σ5))
  else
  (if r3 = 3 then
    0 ≤ r1 ∧ r1 < 4096 ∧ (if (σ4 9805 r1) = 3 then
      Q 0 σ4
      else
      X 1 [9790, x1, x2, x3, r1, r3] σ4)
    else
    X 1 [9790, x1, x2, x3, r1, r3] σ4))))
def B_Model_come_1 (X : Nat → List Int → AMem → Prop) (Q : Int → AMem → Prop) (x1 x2 x3 x4 x5 : Int) (σ : AMem) : Prop :=
  0 ≤ x4 ∧ x4 < 4096 ∧ (if (σ 9805 x4) = 0 then
  0 ≤ (σ 9790 48) ∧ (σ 9790 48) < 4096 ∧ am_let (am_upd σ 9826 (σ 9790 48) x4) (fun σ1 => am_r32 ((σ1 9790 48) + 1) ∧ am_let (am_upd σ1 9790 48 ((σ1 9790 48) + 1)) (fun σ2 => X 2 [9790, x1, x2, x3, x4, x5] σ2))
  else
  X 2 [9790, x1, x2, x3, x4, x5] σ)
def B_Model_come_2 (X : Nat → List Int → AMem → Prop) (Q : Int → AMem → Prop) (x1 x2 x3 x4 x5 : Int) (σ : AMem) : Prop :=
  (if x5 = 2 then
  0 ≤ x4 ∧ x4 < 4096 ∧ (if (σ 9805 x4) = 2 then
    T_Model_symbolSize [9790, x2, x3] σ (fun r1 σ2 => 0 ≤ x4 ∧ x4 < 4096 ∧ (if (σ2 9808 x4) < (w32 r1) then
      T_Model_symbolSize [9790, x2, x3] σ2 (fun r3 σ4 => X 3 [9790, x1, x2, x3, x4, x5, (w32 r3), x4, 9808] σ4)
      else
      0 ≤ x4 ∧ x4 < 4096 ∧ X 3 [9790, x1, x2, x3, x4, x5, (σ2 9808 x4), x4, 9808] σ2))
    else
    X 5 [9790, x1, x2, x3, x4, x5] σ)
  else
  X 5 [9790, x1, x2, x3, x4, x5] σ)
def B_Model_come_3 (X : Nat → List Int → AMem → Prop) (Q : Int → AMem → Prop) (x1 x2 x3 x4 x5 s0 s1 s2 : Int) (σ : AMem) : Prop :=
  (if ly_k s2 = 1 then 0 ≤ s1 ∧ s1 < ly_l s2 ∧ am_let (am_upd σ s2 s1 s0) (fun σ1 => T_Model_value [9790, x2, x3] σ1 (fun r2 σ3 => 0 ≤ x4 ∧ x4 < 4096 ∧ (if (σ3 9809 x4) < (w32 r2) then
  T_Model_value [9790, x2, x3] σ3 (fun r4 σ5 => X 4 [9790, x1, x2, x3, x4, x5, (w32 r4), x4, 9809] σ5)
  else
  0 ≤ x4 ∧ x4 < 4096 ∧ X 4 [9790, x1, x2, x3, x4, x5, (σ3 9809 x4), x4, 9809] σ3))) else False)
def B_Model_come_4 (X : Nat → List Int → AMem → Prop) (Q : Int → AMem → Prop) (x1 x2 x3 x4 x5 s0 s1 s2 : Int) (σ : AMem) : Prop :=
  (if ly_k s2 = 1 then 0 ≤ s1 ∧ s1 < ly_l s2 ∧ am_let (am_upd σ s2 s1 s0) (fun σ1 => X 5 [9790, x1, x2, x3, x4, x5] σ1) else False)
def B_Model_come_5 (X : Nat → List Int → AMem → Prop) (Q : Int → AMem → Prop) (x1 x2 x3 x4 x5 : Int) (σ : AMem) : Prop :=
  0 ≤ x4 ∧ x4 < 4096 ∧ (if (σ 9805 x4) < x5 then
  0 ≤ x4 ∧ x4 < 4096 ∧ am_let (am_upd σ 9805 x4 x5) (fun σ1 => 0 ≤ x4 ∧ x4 < 4096 ∧ am_let (am_upd σ1 9806 x4 x1) (fun σ2 => 0 ≤ x4 ∧ x4 < 4096 ∧ am_let (am_upd σ2 9807 x4 x3) (fun σ3 => (if x5 = 2 then
    T_Model_symbolSize [9790, x2, x3] σ3 (fun r4 σ5 => X 6 [9790, x2, x3, x4, x5, (w32 r4), x4, 9808] σ5)
    else
    X 6 [9790, x2, x3, x4, x5, 0, x4, 9808] σ3))))
  else
  Q 1 σ)
def B_Model_come_6 (X : Nat → List Int → AMem → Prop) (Q : Int → AMem → Prop) (x2 x3 x4 x5 s0 s1 s2 : Int) (σ : AMem) : Prop :=
  (if ly_k s2 = 1 then 0 ≤ s1 ∧ s1 < ly_l s2 ∧ am_let (am_upd σ s2 s1 s0) (fun σ1 => (if x5 = 2 then
  T_Model_value [9790, x2, x3] σ1 (fun r3 σ4 => 0 ≤ x4 ∧ x4 < 4096 ∧ am_let (am_upd σ4 9809 x4 (w32 r3)) (fun σ5 => Q 1 σ5))
  else
  0 ≤ x4 ∧ x4 < 4096 ∧ am_let (am_upd σ1 9809 x4 0) (fun σ2 => Q 1 σ2))) else False)
def B_Model_come : (Nat → List Int → AMem → Prop) → (Int → AMem → Prop) → Nat → List Int → AMem → Prop := fun X Q j v σ => am_sel [(am_v4 (fun t x1 x2 x3 σ => if t = 9790 then B_Model_come_0 X Q x1 x2 x3 σ else False)), (am_v6 (fun t x1 x2 x3 x4 x5 σ => if t = 9790 then B_Model_come_1 X Q x1 x2 x3 x4 x5 σ else False)), (am_v6 (fun t x1 x2 x3 x4 x5 σ => if t = 9790 then B_Model_come_2 X Q x1 x2 x3 x4 x5 σ else False)), (am_v9 (fun t x1 x2 x3 x4 x5 s0 s1 s2 σ => if t = 9790 then B_Model_come_3 X Q x1 x2 x3 x4 x5 s0 s1 s2 σ else False)), (am_v9 (fun t x1 x2 x3 x4 x5 s0 s1 s2 σ => if t = 9790 then B_Model_come_4 X Q x1 x2 x3 x4 x5 s0 s1 s2 σ else False)), (am_v6 (fun t x1 x2 x3 x4 x5 σ => if t = 9790 then B_Model_come_5 X Q x1 x2 x3 x4 x5 σ else False)), (am_v8 (fun t x2 x3 x4 x5 s0 s1 s2 σ => if t = 9790 then B_Model_come_6 X Q x2 x3 x4 x5 s0 s1 s2 σ else False))] j v σ
def T_Model_come : List Int → AMem → (Int → AMem → Prop) → Prop := am_T B_Model_come
abbrev y_Model_come : MethodName := ⟨"LinkHouseModel", "come", "(III)Z"⟩
def a_Model_come : AC := (242, (y_Model_come, prog_10_method_63_code, 6, (Option.some Jvm.ClassFile.FieldType.boolean)), [2, 0, 0, 0], 0, false, { frames := 8, cells := 0, slots := 0, locals := 244 }, T_Model_come)
set_option maxRecDepth 100000 in
theorem ms_Model_come : am_MSp a_Model_come := am_ms_v 9139 9 9138 108015 8 rfl (by decide +kernel)
abbrev k_Model_come : List AC := [a_Model_enter, a_Model_strengthOf, a_Model_bind, a_Model_symbolSize, a_Model_value]
set_option maxRecDepth 100000 in
theorem s_Model_come : (am_chkR { frames := 8, cells := 0, slots := 0, locals := 244 } k_Model_come && am_chkN c_Model_come { frames := 8, cells := 0, slots := 0, locals := 244 } && c_Model_come.all (am_chk "LinkHouseModel" prog_10_method_63_code 6 (Option.some Jvm.ClassFile.FieldType.boolean) k_Model_come) && c_Model_come.all (am_chkL m_Model_come) && decide (m_Model_come[0]? = some (0, am_argp 0 [2, 0, 0, 0], [])) && decide (am_argn [2, 0, 0, 0] ≤ 6)) = true := by decide +kernel
set_option maxHeartbeats 150000 in
set_option maxRecDepth 100000 in
theorem h_Model_come : ∀ X Q j v σ, B_Model_come X Q j v σ → am_at GR k_Model_come c_Model_come m_Model_come X Q 175 j v σ := fun X Q => am_sel_all (P := fun j v σ => am_at GR k_Model_come c_Model_come m_Model_come X Q 175 j v σ) (⟨(am_v4_of (fun t x1 x2 x3 σ h => am_tk (fun e => by subst e; exact fun h => h) h)), ⟨(am_v6_of (fun t x1 x2 x3 x4 x5 σ h => am_tk (fun e => by subst e; exact fun h => h) h)), ⟨(am_v6_of (fun t x1 x2 x3 x4 x5 σ h => am_tk (fun e => by subst e; exact fun h => h) h)), ⟨(am_v9_of (fun t x1 x2 x3 x4 x5 s0 s1 s2 σ h => am_tk (fun e => by subst e; exact fun h => h) h)), ⟨(am_v9_of (fun t x1 x2 x3 x4 x5 s0 s1 s2 σ h => am_tk (fun e => by subst e; exact fun h => h) h)), ⟨(am_v6_of (fun t x1 x2 x3 x4 x5 σ h => am_tk (fun e => by subst e; exact fun h => h) h)), ⟨(am_v8_of (fun t x2 x3 x4 x5 s0 s1 s2 σ h => am_tk (fun e => by subst e; exact fun h => h) h)), trivial⟩⟩⟩⟩⟩⟩⟩)
set_option maxRecDepth 100000 in
theorem S_Model_come (l : Launch) (w : AW) : am_S l w GR a_Model_come := am_sound (rt := 0) (cal := k_Model_come) 242 y_Model_come prog_10_method_63_code 6 (Option.some Jvm.ClassFile.FieldType.boolean) [2, 0, 0, 0] false { frames := 8, cells := 0, slots := 0, locals := 244 } B_Model_come "LinkHouseModel" c_Model_come m_Model_come 175 ms_Model_come (by decide +kernel) rfl rfl (am_cal (S_Model_enter l w) (am_cal (S_Model_strengthOf l w) (am_cal (S_Model_bind l w) (am_cal (S_Model_symbolSize l w) (am_cal (S_Model_value l w) (fun _ h => absurd h List.not_mem_nil)))))) s_Model_come h_Model_come
set_option maxRecDepth 100000 in
theorem of_Model_come {Q : Int → AMem → Prop} {x1 x2 x3 : Int} {σ : AMem} (h : ∀ X : Nat → List Int → AMem → Prop, (∀ (x1 x2 x3 : Int) (σ : AMem), B_Model_come_0 X Q x1 x2 x3 σ → X 0 [9790, x1, x2, x3] σ) → (∀ (x1 x2 x3 x4 x5 : Int) (σ : AMem), B_Model_come_1 X Q x1 x2 x3 x4 x5 σ → X 1 [9790, x1, x2, x3, x4, x5] σ) → (∀ (x1 x2 x3 x4 x5 : Int) (σ : AMem), B_Model_come_2 X Q x1 x2 x3 x4 x5 σ → X 2 [9790, x1, x2, x3, x4, x5] σ) → (∀ (x1 x2 x3 x4 x5 s0 s1 s2 : Int) (σ : AMem), B_Model_come_3 X Q x1 x2 x3 x4 x5 s0 s1 s2 σ → X 3 [9790, x1, x2, x3, x4, x5, s0, s1, s2] σ) → (∀ (x1 x2 x3 x4 x5 s0 s1 s2 : Int) (σ : AMem), B_Model_come_4 X Q x1 x2 x3 x4 x5 s0 s1 s2 σ → X 4 [9790, x1, x2, x3, x4, x5, s0, s1, s2] σ) → (∀ (x1 x2 x3 x4 x5 : Int) (σ : AMem), B_Model_come_5 X Q x1 x2 x3 x4 x5 σ → X 5 [9790, x1, x2, x3, x4, x5] σ) → (∀ (x2 x3 x4 x5 s0 s1 s2 : Int) (σ : AMem), B_Model_come_6 X Q x2 x3 x4 x5 s0 s1 s2 σ → X 6 [9790, x2, x3, x4, x5, s0, s1, s2] σ) → X 0 [9790, x1, x2, x3] σ) : T_Model_come [9790, x1, x2, x3] σ Q := fun X hX => h X (fun x1 x2 x3 σ h => hX 0 [9790, x1, x2, x3] σ h) (fun x1 x2 x3 x4 x5 σ h => hX 1 [9790, x1, x2, x3, x4, x5] σ h) (fun x1 x2 x3 x4 x5 σ h => hX 2 [9790, x1, x2, x3, x4, x5] σ h) (fun x1 x2 x3 x4 x5 s0 s1 s2 σ h => hX 3 [9790, x1, x2, x3, x4, x5, s0, s1, s2] σ h) (fun x1 x2 x3 x4 x5 s0 s1 s2 σ h => hX 4 [9790, x1, x2, x3, x4, x5, s0, s1, s2] σ h) (fun x1 x2 x3 x4 x5 σ h => hX 5 [9790, x1, x2, x3, x4, x5] σ h) (fun x2 x3 x4 x5 s0 s1 s2 σ h => hX 6 [9790, x2, x3, x4, x5, s0, s1, s2] σ h)
def c_Model_say : List aE := [(0, 1, .iconst 0, 1, 0, 0, []), (1, 0, .istore 4, 2, 0, 0, []), (3, 2, .iload 4, 2, 0, 0, []), (5, 0, .iload_n 3, 1, 0, 0, []), (6, 0, .if_icmp .ge 22, 3, 0, 0, []), (9, 0, .aload_n 0, 1, 0, 0, []), (10, 0, .getfield 14, 3, 8, 3, [2, 0, 6192]), (13, 0, .iload 4, 2, 0, 0, []), (15, 0, .aload_n 1, 1, 0, 0, []), (16, 0, .iload_n 2, 1, 0, 0, []), (17, 0, .iload 4, 2, 0, 0, []), (19, 0, .iadd, 1, 0, 0, []), (20, 0, .baload, 1, 2, 0, []), (21, 0, .bastore, 1, 2, 0, []), (22, 0, .iinc 4 1, 3, 0, 0, []), (25, 0, .goto (-22), 3, 0, 0, []), (28, 0, .aload_n 0, 1, 0, 0, []), (29, 0, .iload_n 3, 1, 0, 0, []), (30, 0, .putfield 519, 3, 8, 4, [0, 0, 6193]), (33, 0, .return_, 1, 0, 0, [])]
def m_Model_say : List aT := [(0, [(0, 2), (1, 2), (2, 0), (3, 0)], []), (3, [(0, 2), (1, 2), (2, 0), (3, 0), (4, 0)], [])]
def B_Model_say_0 (X : Nat → List Int → AMem → Prop) (Q : Int → AMem → Prop) (x1 x2 x3 : Int) (σ : AMem) : Prop :=
  X 1 [9790, x1, x2, x3, 0] σ
def B_Model_say_1 (X : Nat → List Int → AMem → Prop) (Q : Int → AMem → Prop) (x1 x2 x3 x4 : Int) (σ : AMem) : Prop :=
  (if x4 < x3 then
  am_r32 (x2 + x4) ∧ (if ly_k x1 = 2 then 0 ≤ (x2 + x4) ∧ (x2 + x4) < ly_l x1 ∧ 0 ≤ x4 ∧ x4 < 65536 ∧ am_let (am_upd σ 9792 x4 (w8 (σ x1 (x2 + x4)))) (fun σ2 => am_r32 (x4 + 1) ∧ X 1 [9790, x1, x2, x3, (x4 + 1)] σ2) else False)
  else
  am_let (am_upd σ 9790 4 x3) (fun σ1 => Q 0 σ1))
def B_Model_say : (Nat → List Int → AMem → Prop) → (Int → AMem → Prop) → Nat → List Int → AMem → Prop := fun X Q j v σ => am_sel [(am_v4 (fun t x1 x2 x3 σ => if t = 9790 then B_Model_say_0 X Q x1 x2 x3 σ else False)), (am_v5 (fun t x1 x2 x3 x4 σ => if t = 9790 then B_Model_say_1 X Q x1 x2 x3 x4 σ else False))] j v σ
def T_Model_say : List Int → AMem → (Int → AMem → Prop) → Prop := am_T B_Model_say
abbrev y_Model_say : MethodName := ⟨"LinkHouseModel", "say", "([BII)V"⟩
def a_Model_say : AC := (243, (y_Model_say, prog_10_method_64_code, 5, (Option.none : Option Jvm.ClassFile.FieldType)), [2, 2, 0, 0], 3, false, { frames := 0, cells := 0, slots := 0, locals := 0 }, T_Model_say)
set_option maxRecDepth 100000 in
theorem ms_Model_say : am_MSp a_Model_say := am_ms_v 9151 9 9150 109002 8 rfl (by decide +kernel)
abbrev k_Model_say : List AC := []
set_option maxRecDepth 100000 in
theorem s_Model_say : (am_chkR { frames := 0, cells := 0, slots := 0, locals := 0 } k_Model_say && am_chkN c_Model_say { frames := 0, cells := 0, slots := 0, locals := 0 } && c_Model_say.all (am_chk "LinkHouseModel" prog_10_method_64_code 5 (Option.none : Option Jvm.ClassFile.FieldType) k_Model_say) && c_Model_say.all (am_chkL m_Model_say) && decide (m_Model_say[0]? = some (0, am_argp 0 [2, 2, 0, 0], [])) && decide (am_argn [2, 2, 0, 0] ≤ 5)) = true := by decide +kernel
set_option maxHeartbeats 150000 in
set_option maxRecDepth 100000 in
theorem h_Model_say : ∀ X Q j v σ, B_Model_say X Q j v σ → am_at GR k_Model_say c_Model_say m_Model_say X Q 25 j v σ := fun X Q => am_sel_all (P := fun j v σ => am_at GR k_Model_say c_Model_say m_Model_say X Q 25 j v σ) (⟨(am_v4_of (fun t x1 x2 x3 σ h => am_tk (fun e => by subst e; exact fun h => h) h)), ⟨(am_v5_of (fun t x1 x2 x3 x4 σ h => am_tk (fun e => by subst e; exact fun h => h) h)), trivial⟩⟩)
set_option maxRecDepth 100000 in
theorem S_Model_say (l : Launch) (w : AW) : am_S l w GR a_Model_say := am_sound (rt := 3) (cal := k_Model_say) 243 y_Model_say prog_10_method_64_code 5 (Option.none : Option Jvm.ClassFile.FieldType) [2, 2, 0, 0] false { frames := 0, cells := 0, slots := 0, locals := 0 } B_Model_say "LinkHouseModel" c_Model_say m_Model_say 25 ms_Model_say (by decide +kernel) rfl rfl (fun _ h => absurd h List.not_mem_nil) s_Model_say h_Model_say
set_option maxRecDepth 100000 in
theorem of_Model_say {Q : Int → AMem → Prop} {x1 x2 x3 : Int} {σ : AMem} (h : ∀ X : Nat → List Int → AMem → Prop, (∀ (x1 x2 x3 : Int) (σ : AMem), B_Model_say_0 X Q x1 x2 x3 σ → X 0 [9790, x1, x2, x3] σ) → (∀ (x1 x2 x3 x4 : Int) (σ : AMem), B_Model_say_1 X Q x1 x2 x3 x4 σ → X 1 [9790, x1, x2, x3, x4] σ) → X 0 [9790, x1, x2, x3] σ) : T_Model_say [9790, x1, x2, x3] σ Q := fun X hX => h X (fun x1 x2 x3 σ h => hX 0 [9790, x1, x2, x3] σ h) (fun x1 x2 x3 x4 σ h => hX 1 [9790, x1, x2, x3, x4] σ h)
def c_Model_take : List aE := [(0, 1, .aload_n 0, 1, 0, 0, []), (1, 0, .getfield 531, 3, 8, 14, [0, 0, 6203]), (4, 0, .istore_n 2, 1, 0, 0, []), (5, 0, .aload_n 0, 1, 0, 0, []), (6, 0, .getfield 44, 3, 8, 17, [2, 0, 6206]), (9, 0, .iload_n 2, 1, 0, 0, []), (10, 0, .iload_n 1, 1, 0, 0, []), (11, 0, .iastore, 1, 0, 0, []), (12, 0, .aload_n 0, 1, 0, 0, []), (13, 0, .getfield 47, 3, 8, 18, [2, 0, 6207]), (16, 0, .iload_n 1, 1, 0, 0, []), (17, 0, .iconst 1, 1, 0, 0, []), (18, 0, .bastore, 1, 3, 0, []), (19, 0, .aload_n 0, 1, 0, 0, []), (20, 0, .dup, 1, 0, 0, []), (21, 0, .getfield 531, 3, 8, 14, [0, 0, 6203]), (24, 0, .iconst 1, 1, 0, 0, []), (25, 0, .iadd, 1, 0, 0, []), (26, 0, .putfield 531, 3, 8, 14, [0, 0, 6203]), (29, 0, .aload_n 0, 1, 0, 0, []), (30, 0, .iload_n 2, 1, 0, 0, []), (31, 0, .invokevirtual 534, 3, 238, 8, [9120]), (34, 0, .aload_n 0, 1, 0, 0, []), (35, 0, .getfield 27, 3, 8, 9, [2, 0, 6198]), (38, 0, .iload_n 1, 1, 0, 0, []), (39, 0, .iaload, 1, 0, 0, []), (40, 0, .istore_n 3, 1, 0, 0, []), (41, 0, .iconst 1, 1, 0, 0, []), (42, 0, .istore 4, 2, 0, 0, []), (44, 2, .iload 4, 2, 0, 0, []), (46, 0, .aload_n 0, 1, 0, 0, []), (47, 0, .iload_n 3, 1, 0, 0, []), (48, 0, .invokevirtual 366, 3, 198, 8, [8197]), (51, 0, .if_icmp .ge 87, 3, 0, 0, []), (54, 0, .aload_n 0, 1, 0, 0, []), (55, 0, .iload_n 3, 1, 0, 0, []), (56, 0, .iload 4, 2, 0, 0, []), (58, 0, .invokevirtual 375, 3, 201, 8, [8213]), (61, 0, .ifCond .ne 6, 3, 0, 0, []), (64, 0, .goto 68, 3, 0, 0, []), (67, 0, .aload_n 0, 1, 0, 0, []), (68, 0, .getfield 40, 3, 8, 13, [0, 0, 6202]), (71, 0, .iconst 1, 1, 0, 0, []), (72, 0, .if_icmp .ne 15, 3, 0, 0, []), (75, 0, .aload_n 0, 1, 0, 0, []), (76, 0, .iload_n 3, 1, 0, 0, []), (77, 0, .iload 4, 2, 0, 0, []), (79, 0, .invokevirtual 513, 3, 239, 8, [9132]), (82, 0, .istore 5, 2, 0, 0, []), (84, 0, .goto 48, 3, 0, 0, []), (87, 0, .aload_n 0, 1, 0, 0, []), (88, 0, .iload_n 2, 1, 0, 0, []), (89, 0, .iload_n 3, 1, 0, 0, []), (90, 0, .iload 4, 2, 0, 0, []), (92, 0, .invokevirtual 538, 3, 242, 8, [9136]), (95, 0, .ifCond .ne 37, 3, 0, 0, []), (98, 0, .aload_n 0, 1, 0, 0, []), (99, 0, .iconst 1, 1, 0, 0, []), (100, 0, .putfield 40, 3, 8, 13, [0, 0, 6202]), (103, 0, .aload_n 0, 1, 0, 0, []), (104, 0, .iload_n 3, 1, 0, 0, []), (105, 0, .iload 4, 2, 0, 0, []), (107, 0, .invokevirtual 541, 3, 234, 8, [9104]), (110, 0, .istore 5, 2, 0, 0, []), (112, 0, .aload_n 0, 1, 0, 0, []), (113, 0, .aload_n 0, 1, 0, 0, []), (114, 0, .getfield 54, 3, 8, 21, [2, 0, 6210]), (117, 0, .bipush 20, 2, 0, 0, []), (119, 0, .iload 5, 2, 0, 0, []), (121, 0, .imul, 1, 0, 0, []), (122, 0, .aload_n 0, 1, 0, 0, []), (123, 0, .getfield 57, 3, 8, 22, [2, 0, 6211]), (126, 0, .iload 5, 2, 0, 0, []), (128, 0, .iaload, 1, 0, 0, []), (129, 0, .invokevirtual 544, 3, 243, 8, [9148]), (132, 3, .iinc 4 1, 3, 0, 0, []), (135, 0, .goto (-91), 3, 0, 0, []), (138, 0, .return_, 1, 0, 0, [])]
def m_Model_take : List aT := [(0, [(0, 2), (1, 0)], []), (44, [(0, 2), (2, 0), (3, 0), (4, 0)], []), (132, [(0, 2), (2, 0), (3, 0), (4, 0)], [])]
def B_Model_take_0 (X : Nat → List Int → AMem → Prop) (Q : Int → AMem → Prop) (x1 : Int) (σ : AMem) : Prop :=
  0 ≤ (σ 9790 14) ∧ (σ 9790 14) < 64 ∧ am_let (am_upd σ 9800 (σ 9790 14) x1) (fun σ1 => 0 ≤ x1 ∧ x1 < 64 ∧ am_let (am_upd σ1 9801 x1 1) (fun σ2 => am_r32 ((σ2 9790 14) + 1) ∧ am_let (am_upd σ2 9790 14 ((σ2 9790 14) + 1)) (fun σ3 => T_Model_dropGroups [9790, (σ 9790 14)] σ3 (fun r4 σ5 => 0 ≤ x1 ∧ x1 < 64 ∧ X 1 [9790, (σ 9790 14), (σ5 9796 x1), 1] σ5))))
def B_Model_take_1 (X : Nat → List Int → AMem → Prop) (Q : Int → AMem → Prop) (x2 x3 x4 : Int) (σ : AMem) : Prop :=
  T_Model_symbolMany [9790, x3] σ (fun r1 σ2 => (if x4 < r1 then
  T_Model_bind [9790, x3, x4] σ2 (fun r3 σ4 => (if r3 = 0 then
    X 2 [9790, x2, x3, x4] σ4
    else
    (if (σ4 9790 13) = 1 then
      T_Model_enter [9790, x3, x4] σ4 (fun r12 σ13 => X 2 [9790, x2, x3, x4] σ13)
      else
      T_Model_come [9790, x2, x3, x4] σ4 (fun r5 σ6 => (if r5 = 0 then
        am_let (am_upd σ6 9790 13 1) (fun σ7 => T_Model_nameOf [9790, x3, x4] σ7 (fun r8 σ9 => am_r32 (20 * r8) ∧ 0 ≤ r8 ∧ r8 < 4096 ∧ T_Model_say [9790, 9803, (20 * r8), (σ9 9804 r8)] σ9 (fun r10 σ11 => X 2 [9790, x2, x3, x4] σ11)))
        else
        X 2 [9790, x2, x3, x4] σ6)))))
  else
  Q 0 σ2))
def B_Model_take_2 (X : Nat → List Int → AMem → Prop) (Q : Int → AMem → Prop) (x2 x3 x4 : Int) (σ : AMem) : Prop :=
  am_r32 (x4 + 1) ∧ X 1 [9790, x2, x3, (x4 + 1)] σ
def B_Model_take : (Nat → List Int → AMem → Prop) → (Int → AMem → Prop) → Nat → List Int → AMem → Prop := fun X Q j v σ => am_sel [(am_v2 (fun t x1 σ => if t = 9790 then B_Model_take_0 X Q x1 σ else False)), (am_v4 (fun t x2 x3 x4 σ => if t = 9790 then B_Model_take_1 X Q x2 x3 x4 σ else False)), (am_v4 (fun t x2 x3 x4 σ => if t = 9790 then B_Model_take_2 X Q x2 x3 x4 σ else False))] j v σ
def T_Model_take : List Int → AMem → (Int → AMem → Prop) → Prop := am_T B_Model_take
abbrev y_Model_take : MethodName := ⟨"LinkHouseModel", "take", "(I)V"⟩
def a_Model_take : AC := (244, (y_Model_take, prog_10_method_67_code, 6, (Option.none : Option Jvm.ClassFile.FieldType)), [2, 0], 3, false, { frames := 9, cells := 0, slots := 0, locals := 281 }, T_Model_take)
set_option maxRecDepth 100000 in
theorem ms_Model_take : am_MSp a_Model_take := am_ms_v 9119 9 9118 108010 8 rfl (by decide +kernel)
abbrev k_Model_take : List AC := [a_Model_dropGroups, a_Model_symbolMany, a_Model_bind, a_Model_enter, a_Model_come, a_Model_nameOf, a_Model_say]
set_option maxRecDepth 100000 in
theorem s_Model_take : (am_chkR { frames := 9, cells := 0, slots := 0, locals := 281 } k_Model_take && am_chkN c_Model_take { frames := 9, cells := 0, slots := 0, locals := 281 } && c_Model_take.all (am_chk "LinkHouseModel" prog_10_method_67_code 6 (Option.none : Option Jvm.ClassFile.FieldType) k_Model_take) && c_Model_take.all (am_chkL m_Model_take) && decide (m_Model_take[0]? = some (0, am_argp 0 [2, 0], [])) && decide (am_argn [2, 0] ≤ 6)) = true := by decide +kernel
set_option maxHeartbeats 150000 in
set_option maxRecDepth 100000 in
theorem h_Model_take : ∀ X Q j v σ, B_Model_take X Q j v σ → am_at GR k_Model_take c_Model_take m_Model_take X Q 83 j v σ := fun X Q => am_sel_all (P := fun j v σ => am_at GR k_Model_take c_Model_take m_Model_take X Q 83 j v σ) (⟨(am_v2_of (fun t x1 σ h => am_tk (fun e => by subst e; exact fun h => h) h)), ⟨(am_v4_of (fun t x2 x3 x4 σ h => am_tk (fun e => by subst e; exact fun h => h) h)), ⟨(am_v4_of (fun t x2 x3 x4 σ h => am_tk (fun e => by subst e; exact fun h => h) h)), trivial⟩⟩⟩)
set_option maxRecDepth 100000 in
theorem S_Model_take (l : Launch) (w : AW) : am_S l w GR a_Model_take := am_sound (rt := 3) (cal := k_Model_take) 244 y_Model_take prog_10_method_67_code 6 (Option.none : Option Jvm.ClassFile.FieldType) [2, 0] false { frames := 9, cells := 0, slots := 0, locals := 281 } B_Model_take "LinkHouseModel" c_Model_take m_Model_take 83 ms_Model_take (by decide +kernel) rfl rfl (am_cal (S_Model_dropGroups l w) (am_cal (S_Model_symbolMany l w) (am_cal (S_Model_bind l w) (am_cal (S_Model_enter l w) (am_cal (S_Model_come l w) (am_cal (S_Model_nameOf l w) (am_cal (S_Model_say l w) (fun _ h => absurd h List.not_mem_nil)))))))) s_Model_take h_Model_take
set_option maxRecDepth 100000 in
theorem of_Model_take {Q : Int → AMem → Prop} {x1 : Int} {σ : AMem} (h : ∀ X : Nat → List Int → AMem → Prop, (∀ (x1 : Int) (σ : AMem), B_Model_take_0 X Q x1 σ → X 0 [9790, x1] σ) → (∀ (x2 x3 x4 : Int) (σ : AMem), B_Model_take_1 X Q x2 x3 x4 σ → X 1 [9790, x2, x3, x4] σ) → (∀ (x2 x3 x4 : Int) (σ : AMem), B_Model_take_2 X Q x2 x3 x4 σ → X 2 [9790, x2, x3, x4] σ) → X 0 [9790, x1] σ) : T_Model_take [9790, x1] σ Q := fun X hX => h X (fun x1 σ h => hX 0 [9790, x1] σ h) (fun x2 x3 x4 σ h => hX 1 [9790, x2, x3, x4] σ h) (fun x2 x3 x4 σ h => hX 2 [9790, x2, x3, x4] σ h)
def c_Model_takeFrom : List aE := [(0, 1, .iconst 1, 1, 0, 0, []), (1, 0, .istore_n 2, 1, 0, 0, []), (2, 2, .iload_n 2, 1, 0, 0, []), (3, 0, .ifCond .eq 106, 3, 0, 0, []), (6, 0, .aload_n 0, 1, 0, 0, []), (7, 0, .getfield 40, 3, 8, 13, [0, 0, 6202]), (10, 0, .iconst 1, 1, 0, 0, []), (11, 0, .if_icmp .eq 98, 3, 0, 0, []), (14, 0, .iconst 0, 1, 0, 0, []), (15, 0, .istore_n 2, 1, 0, 0, []), (16, 0, .iconst 0, 1, 0, 0, []), (17, 0, .istore_n 3, 1, 0, 0, []), (18, 3, .iload_n 3, 1, 0, 0, []), (19, 0, .aload_n 0, 1, 0, 0, []), (20, 0, .getfield 24, 3, 8, 8, [2, 0, 6197]), (23, 0, .iload_n 1, 1, 0, 0, []), (24, 0, .iaload, 1, 0, 0, []), (25, 0, .if_icmp .ge 81, 3, 0, 0, []), (28, 0, .aload_n 0, 1, 0, 0, []), (29, 0, .getfield 40, 3, 8, 13, [0, 0, 6202]), (32, 0, .iconst 1, 1, 0, 0, []), (33, 0, .if_icmp .eq 73, 3, 0, 0, []), (36, 0, .bipush 8, 2, 0, 0, []), (38, 0, .iload_n 1, 1, 0, 0, []), (39, 0, .imul, 1, 0, 0, []), (40, 0, .iload_n 3, 1, 0, 0, []), (41, 0, .iadd, 1, 0, 0, []), (42, 0, .istore 4, 2, 0, 0, []), (44, 0, .aload_n 0, 1, 0, 0, []), (45, 0, .getfield 37, 3, 8, 12, [2, 0, 6201]), (48, 0, .iload 4, 2, 0, 0, []), (50, 0, .baload, 1, 3, 0, []), (51, 0, .ifCond .ne 49, 3, 0, 0, []), (54, 0, .aload_n 0, 1, 0, 0, []), (55, 0, .getfield 47, 3, 8, 18, [2, 0, 6207]), (58, 0, .iload 4, 2, 0, 0, []), (60, 0, .baload, 1, 3, 0, []), (61, 0, .ifCond .eq 6, 3, 0, 0, []), (64, 0, .goto 36, 3, 0, 0, []), (67, 0, .aload_n 0, 1, 0, 0, []), (68, 0, .iload 4, 2, 0, 0, []), (70, 0, .invokevirtual 548, 3, 235, 8, [9100]), (73, 0, .istore 5, 2, 0, 0, []), (75, 0, .iload 5, 2, 0, 0, []), (77, 0, .ifCond .ge 6, 3, 0, 0, []), (80, 0, .goto 20, 3, 0, 0, []), (83, 0, .aload_n 0, 1, 0, 0, []), (84, 0, .getfield 106, 3, 8, 40, [2, 0, 6229]), (87, 0, .iload 4, 2, 0, 0, []), (89, 0, .iload 5, 2, 0, 0, []), (91, 0, .iastore, 1, 0, 0, []), (92, 0, .aload_n 0, 1, 0, 0, []), (93, 0, .iload 4, 2, 0, 0, []), (95, 0, .invokevirtual 551, 3, 244, 8, [9116]), (98, 0, .iconst 1, 1, 0, 0, []), (99, 0, .istore_n 2, 1, 0, 0, []), (100, 4, .iinc 3 1, 3, 0, 0, []), (103, 0, .goto (-85), 3, 0, 0, []), (106, 5, .goto (-104), 3, 0, 0, []), (109, 0, .return_, 1, 0, 0, [])]
def m_Model_takeFrom : List aT := [(0, [(0, 2), (1, 0)], []), (2, [(0, 2), (1, 0), (2, 0)], []), (18, [(0, 2), (1, 0), (2, 0), (3, 0)], []), (100, [(0, 2), (1, 0), (2, 0), (3, 0)], []), (106, [(0, 2), (1, 0), (2, 0)], [])]
def B_Model_takeFrom_0 (X : Nat → List Int → AMem → Prop) (Q : Int → AMem → Prop) (x1 : Int) (σ : AMem) : Prop :=
  X 1 [9790, x1, 1] σ
def B_Model_takeFrom_1 (X : Nat → List Int → AMem → Prop) (Q : Int → AMem → Prop) (x1 x2 : Int) (σ : AMem) : Prop :=
  (if x2 = 0 then
  Q 0 σ
  else
  (if (σ 9790 13) = 1 then
    Q 0 σ
    else
    X 2 [9790, x1, 0, 0] σ))
def B_Model_takeFrom_2 (X : Nat → List Int → AMem → Prop) (Q : Int → AMem → Prop) (x1 x2 x3 : Int) (σ : AMem) : Prop :=
  0 ≤ x1 ∧ x1 < 8 ∧ (if x3 < (σ 9795 x1) then
  (if (σ 9790 13) = 1 then
    X 4 [9790, x1, x2] σ
    else
    am_r32 (8 * x1) ∧ am_r32 ((8 * x1) + x3) ∧ 0 ≤ ((8 * x1) + x3) ∧ ((8 * x1) + x3) < 64 ∧ (if (σ 9799 ((8 * x1) + x3)) = 0 then
      0 ≤ ((8 * x1) + x3) ∧ ((8 * x1) + x3) < 64 ∧ (if (σ 9801 ((8 * x1) + x3)) = 0 then
        T_Model_helps [9790, ((8 * x1) + x3)] σ (fun r1 σ2 => (if r1 < 0 then
          X 3 [9790, x1, x2, x3] σ2
          else
          0 ≤ ((8 * x1) + x3) ∧ ((8 * x1) + x3) < 64 ∧ am_let (am_upd σ2 9820 ((8 * x1) + x3) r1) (fun σ3 => T_Model_take [9790, ((8 * x1) + x3)] σ3 (fun r4 σ5 => X 3 [9790, x1, 1, x3] σ5))))
        else
        X 3 [9790, x1, x2, x3] σ)
      else
      X 3 [9790, x1, x2, x3] σ))
  else
  X 4 [9790, x1, x2] σ)
def B_Model_takeFrom_3 (X : Nat → List Int → AMem → Prop) (Q : Int → AMem → Prop) (x1 x2 x3 : Int) (σ : AMem) : Prop :=
  am_r32 (x3 + 1) ∧ X 2 [9790, x1, x2, (x3 + 1)] σ
def B_Model_takeFrom_4 (X : Nat → List Int → AMem → Prop) (Q : Int → AMem → Prop) (x1 x2 : Int) (σ : AMem) : Prop :=
  X 1 [9790, x1, x2] σ
def B_Model_takeFrom : (Nat → List Int → AMem → Prop) → (Int → AMem → Prop) → Nat → List Int → AMem → Prop := fun X Q j v σ => am_sel [(am_v2 (fun t x1 σ => if t = 9790 then B_Model_takeFrom_0 X Q x1 σ else False)), (am_v3 (fun t x1 x2 σ => if t = 9790 then B_Model_takeFrom_1 X Q x1 x2 σ else False)), (am_v4 (fun t x1 x2 x3 σ => if t = 9790 then B_Model_takeFrom_2 X Q x1 x2 x3 σ else False)), (am_v4 (fun t x1 x2 x3 σ => if t = 9790 then B_Model_takeFrom_3 X Q x1 x2 x3 σ else False)), (am_v3 (fun t x1 x2 σ => if t = 9790 then B_Model_takeFrom_4 X Q x1 x2 σ else False))] j v σ
def T_Model_takeFrom : List Int → AMem → (Int → AMem → Prop) → Prop := am_T B_Model_takeFrom
abbrev y_Model_takeFrom : MethodName := ⟨"LinkHouseModel", "takeFrom", "(I)V"⟩
def a_Model_takeFrom : AC := (245, (y_Model_takeFrom, prog_10_method_69_code, 6, (Option.none : Option Jvm.ClassFile.FieldType)), [2, 0], 3, false, { frames := 10, cells := 0, slots := 0, locals := 314 }, T_Model_takeFrom)
set_option maxRecDepth 100000 in
theorem ms_Model_takeFrom : am_MSp a_Model_takeFrom := am_ms_v 9099 9 9098 108005 8 rfl (by decide +kernel)
abbrev k_Model_takeFrom : List AC := [a_Model_helps, a_Model_take]
set_option maxRecDepth 100000 in
theorem s_Model_takeFrom : (am_chkR { frames := 10, cells := 0, slots := 0, locals := 314 } k_Model_takeFrom && am_chkN c_Model_takeFrom { frames := 10, cells := 0, slots := 0, locals := 314 } && c_Model_takeFrom.all (am_chk "LinkHouseModel" prog_10_method_69_code 6 (Option.none : Option Jvm.ClassFile.FieldType) k_Model_takeFrom) && c_Model_takeFrom.all (am_chkL m_Model_takeFrom) && decide (m_Model_takeFrom[0]? = some (0, am_argp 0 [2, 0], [])) && decide (am_argn [2, 0] ≤ 6)) = true := by decide +kernel
set_option maxHeartbeats 150000 in
set_option maxRecDepth 100000 in
theorem h_Model_takeFrom : ∀ X Q j v σ, B_Model_takeFrom X Q j v σ → am_at GR k_Model_takeFrom c_Model_takeFrom m_Model_takeFrom X Q 65 j v σ := fun X Q => am_sel_all (P := fun j v σ => am_at GR k_Model_takeFrom c_Model_takeFrom m_Model_takeFrom X Q 65 j v σ) (⟨(am_v2_of (fun t x1 σ h => am_tk (fun e => by subst e; exact fun h => h) h)), ⟨(am_v3_of (fun t x1 x2 σ h => am_tk (fun e => by subst e; exact fun h => h) h)), ⟨(am_v4_of (fun t x1 x2 x3 σ h => am_tk (fun e => by subst e; exact fun h => h) h)), ⟨(am_v4_of (fun t x1 x2 x3 σ h => am_tk (fun e => by subst e; exact fun h => h) h)), ⟨(am_v3_of (fun t x1 x2 σ h => am_tk (fun e => by subst e; exact fun h => h) h)), trivial⟩⟩⟩⟩⟩)
set_option maxRecDepth 100000 in
theorem S_Model_takeFrom (l : Launch) (w : AW) : am_S l w GR a_Model_takeFrom := am_sound (rt := 3) (cal := k_Model_takeFrom) 245 y_Model_takeFrom prog_10_method_69_code 6 (Option.none : Option Jvm.ClassFile.FieldType) [2, 0] false { frames := 10, cells := 0, slots := 0, locals := 314 } B_Model_takeFrom "LinkHouseModel" c_Model_takeFrom m_Model_takeFrom 65 ms_Model_takeFrom (by decide +kernel) rfl rfl (am_cal (S_Model_helps l w) (am_cal (S_Model_take l w) (fun _ h => absurd h List.not_mem_nil))) s_Model_takeFrom h_Model_takeFrom
set_option maxRecDepth 100000 in
theorem of_Model_takeFrom {Q : Int → AMem → Prop} {x1 : Int} {σ : AMem} (h : ∀ X : Nat → List Int → AMem → Prop, (∀ (x1 : Int) (σ : AMem), B_Model_takeFrom_0 X Q x1 σ → X 0 [9790, x1] σ) → (∀ (x1 x2 : Int) (σ : AMem), B_Model_takeFrom_1 X Q x1 x2 σ → X 1 [9790, x1, x2] σ) → (∀ (x1 x2 x3 : Int) (σ : AMem), B_Model_takeFrom_2 X Q x1 x2 x3 σ → X 2 [9790, x1, x2, x3] σ) → (∀ (x1 x2 x3 : Int) (σ : AMem), B_Model_takeFrom_3 X Q x1 x2 x3 σ → X 3 [9790, x1, x2, x3] σ) → (∀ (x1 x2 : Int) (σ : AMem), B_Model_takeFrom_4 X Q x1 x2 σ → X 4 [9790, x1, x2] σ) → X 0 [9790, x1] σ) : T_Model_takeFrom [9790, x1] σ Q := fun X hX => h X (fun x1 σ h => hX 0 [9790, x1] σ h) (fun x1 x2 σ h => hX 1 [9790, x1, x2] σ h) (fun x1 x2 x3 σ h => hX 2 [9790, x1, x2, x3] σ h) (fun x1 x2 x3 σ h => hX 3 [9790, x1, x2, x3] σ h) (fun x1 x2 σ h => hX 4 [9790, x1, x2] σ h)
def c_Model_takeAll : List aE := [(0, 1, .iconst 0, 1, 0, 0, []), (1, 0, .istore_n 1, 1, 0, 0, []), (2, 2, .iload_n 1, 1, 0, 0, []), (3, 0, .bipush 64, 2, 0, 0, []), (5, 0, .if_icmp .ge 23, 3, 0, 0, []), (8, 0, .aload_n 0, 1, 0, 0, []), (9, 0, .getfield 47, 3, 8, 18, [2, 0, 6207]), (12, 0, .iload_n 1, 1, 0, 0, []), (13, 0, .iconst 0, 1, 0, 0, []), (14, 0, .bastore, 1, 3, 0, []), (15, 0, .aload_n 0, 1, 0, 0, []), (16, 0, .getfield 106, 3, 8, 40, [2, 0, 6229]), (19, 0, .iload_n 1, 1, 0, 0, []), (20, 0, .iconst (-1), 1, 0, 0, []), (21, 0, .iastore, 1, 0, 0, []), (22, 0, .iinc 1 1, 3, 0, 0, []), (25, 0, .goto (-23), 3, 0, 0, []), (28, 0, .iconst 0, 1, 0, 0, []), (29, 0, .istore_n 1, 1, 0, 0, []), (30, 3, .iload_n 1, 1, 0, 0, []), (31, 0, .aload_n 0, 1, 0, 0, []), (32, 0, .getfield 467, 3, 8, 5, [0, 0, 6194]), (35, 0, .if_icmp .ge 16, 3, 0, 0, []), (38, 0, .aload_n 0, 1, 0, 0, []), (39, 0, .getfield 50, 3, 8, 19, [2, 0, 6208]), (42, 0, .iload_n 1, 1, 0, 0, []), (43, 0, .iconst 1, 1, 0, 0, []), (44, 0, .bastore, 1, 3, 0, []), (45, 0, .iinc 1 1, 3, 0, 0, []), (48, 0, .goto (-18), 3, 0, 0, []), (51, 0, .iconst 0, 1, 0, 0, []), (52, 0, .istore_n 1, 1, 0, 0, []), (53, 4, .iload_n 1, 1, 0, 0, []), (54, 0, .aload_n 0, 1, 0, 0, []), (55, 0, .getfield 467, 3, 8, 5, [0, 0, 6194]), (58, 0, .if_icmp .ge 42, 3, 0, 0, []), (61, 0, .aload_n 0, 1, 0, 0, []), (62, 0, .getfield 40, 3, 8, 13, [0, 0, 6202]), (65, 0, .iconst 1, 1, 0, 0, []), (66, 0, .if_icmp .eq 34, 3, 0, 0, []), (69, 0, .aload_n 0, 1, 0, 0, []), (70, 0, .getfield 33, 3, 8, 11, [2, 0, 6200]), (73, 0, .iload_n 1, 1, 0, 0, []), (74, 0, .baload, 1, 3, 0, []), (75, 0, .ifCond .eq 11, 3, 0, 0, []), (78, 0, .aload_n 0, 1, 0, 0, []), (79, 0, .iload_n 1, 1, 0, 0, []), (80, 0, .invokevirtual 554, 3, 245, 8, [9096]), (83, 0, .goto 11, 3, 0, 0, []), (86, 0, .aload_n 0, 1, 0, 0, []), (87, 0, .bipush 8, 2, 0, 0, []), (89, 0, .iload_n 1, 1, 0, 0, []), (90, 0, .imul, 1, 0, 0, []), (91, 0, .invokevirtual 551, 3, 244, 8, [9116]), (94, 5, .iinc 1 1, 3, 0, 0, []), (97, 0, .goto (-44), 3, 0, 0, []), (100, 0, .return_, 1, 0, 0, [])]
def m_Model_takeAll : List aT := [(0, [(0, 2)], []), (2, [(0, 2), (1, 0)], []), (30, [(0, 2), (1, 0)], []), (53, [(0, 2), (1, 0)], []), (94, [(0, 2), (1, 0)], [])]
def B_Model_takeAll_0 (X : Nat → List Int → AMem → Prop) (Q : Int → AMem → Prop) (σ : AMem) : Prop :=
  X 1 [9790, 0] σ
def B_Model_takeAll_1 (X : Nat → List Int → AMem → Prop) (Q : Int → AMem → Prop) (x1 : Int) (σ : AMem) : Prop :=
  (if x1 < 64 then
  0 ≤ x1 ∧ x1 < 64 ∧ am_let (am_upd σ 9801 x1 0) (fun σ1 => 0 ≤ x1 ∧ x1 < 64 ∧ am_let (am_upd σ1 9820 x1 (-1)) (fun σ2 => am_r32 (x1 + 1) ∧ X 1 [9790, (x1 + 1)] σ2))
  else
  X 2 [9790, 0] σ)
def B_Model_takeAll_2 (X : Nat → List Int → AMem → Prop) (Q : Int → AMem → Prop) (x1 : Int) (σ : AMem) : Prop :=
  (if x1 < (σ 9790 5) then
  0 ≤ x1 ∧ x1 < 8 ∧ am_let (am_upd σ 9802 x1 1) (fun σ1 => am_r32 (x1 + 1) ∧ X 2 [9790, (x1 + 1)] σ1)
  else
  X 3 [9790, 0] σ)
def B_Model_takeAll_3 (X : Nat → List Int → AMem → Prop) (Q : Int → AMem → Prop) (x1 : Int) (σ : AMem) : Prop :=
  (if x1 < (σ 9790 5) then
  (if (σ 9790 13) = 1 then
    Q 0 σ
    else
    0 ≤ x1 ∧ x1 < 8 ∧ (if (σ 9798 x1) = 0 then
      am_r32 (8 * x1) ∧ T_Model_take [9790, (8 * x1)] σ (fun r1 σ2 => X 4 [9790, x1] σ2)
      else
      T_Model_takeFrom [9790, x1] σ (fun r3 σ4 => X 4 [9790, x1] σ4)))
  else
  Q 0 σ)
def B_Model_takeAll_4 (X : Nat → List Int → AMem → Prop) (Q : Int → AMem → Prop) (x1 : Int) (σ : AMem) : Prop :=
  am_r32 (x1 + 1) ∧ X 3 [9790, (x1 + 1)] σ
def B_Model_takeAll : (Nat → List Int → AMem → Prop) → (Int → AMem → Prop) → Nat → List Int → AMem → Prop := fun X Q j v σ => am_sel [(am_v1 (fun t σ => if t = 9790 then B_Model_takeAll_0 X Q σ else False)), (am_v2 (fun t x1 σ => if t = 9790 then B_Model_takeAll_1 X Q x1 σ else False)), (am_v2 (fun t x1 σ => if t = 9790 then B_Model_takeAll_2 X Q x1 σ else False)), (am_v2 (fun t x1 σ => if t = 9790 then B_Model_takeAll_3 X Q x1 σ else False)), (am_v2 (fun t x1 σ => if t = 9790 then B_Model_takeAll_4 X Q x1 σ else False))] j v σ
def T_Model_takeAll : List Int → AMem → (Int → AMem → Prop) → Prop := am_T B_Model_takeAll
abbrev y_Model_takeAll : MethodName := ⟨"LinkHouseModel", "takeAll", "()V"⟩
def a_Model_takeAll : AC := (246, (y_Model_takeAll, prog_10_method_70_code, 2, (Option.none : Option Jvm.ClassFile.FieldType)), [2], 3, false, { frames := 11, cells := 0, slots := 0, locals := 347 }, T_Model_takeAll)
set_option maxRecDepth 100000 in
theorem ms_Model_takeAll : am_MSp a_Model_takeAll := am_ms_v 9095 9 9094 108004 8 rfl (by decide +kernel)
abbrev k_Model_takeAll : List AC := [a_Model_takeFrom, a_Model_take]
set_option maxRecDepth 100000 in
theorem s_Model_takeAll : (am_chkR { frames := 11, cells := 0, slots := 0, locals := 347 } k_Model_takeAll && am_chkN c_Model_takeAll { frames := 11, cells := 0, slots := 0, locals := 347 } && c_Model_takeAll.all (am_chk "LinkHouseModel" prog_10_method_70_code 2 (Option.none : Option Jvm.ClassFile.FieldType) k_Model_takeAll) && c_Model_takeAll.all (am_chkL m_Model_takeAll) && decide (m_Model_takeAll[0]? = some (0, am_argp 0 [2], [])) && decide (am_argn [2] ≤ 2)) = true := by decide +kernel
set_option maxHeartbeats 150000 in
set_option maxRecDepth 100000 in
theorem h_Model_takeAll : ∀ X Q j v σ, B_Model_takeAll X Q j v σ → am_at GR k_Model_takeAll c_Model_takeAll m_Model_takeAll X Q 62 j v σ := fun X Q => am_sel_all (P := fun j v σ => am_at GR k_Model_takeAll c_Model_takeAll m_Model_takeAll X Q 62 j v σ) (⟨(am_v1_of (fun t σ h => am_tk (fun e => by subst e; exact fun h => h) h)), ⟨(am_v2_of (fun t x1 σ h => am_tk (fun e => by subst e; exact fun h => h) h)), ⟨(am_v2_of (fun t x1 σ h => am_tk (fun e => by subst e; exact fun h => h) h)), ⟨(am_v2_of (fun t x1 σ h => am_tk (fun e => by subst e; exact fun h => h) h)), ⟨(am_v2_of (fun t x1 σ h => am_tk (fun e => by subst e; exact fun h => h) h)), trivial⟩⟩⟩⟩⟩)
set_option maxRecDepth 100000 in
theorem S_Model_takeAll (l : Launch) (w : AW) : am_S l w GR a_Model_takeAll := am_sound (rt := 3) (cal := k_Model_takeAll) 246 y_Model_takeAll prog_10_method_70_code 2 (Option.none : Option Jvm.ClassFile.FieldType) [2] false { frames := 11, cells := 0, slots := 0, locals := 347 } B_Model_takeAll "LinkHouseModel" c_Model_takeAll m_Model_takeAll 62 ms_Model_takeAll (by decide +kernel) rfl rfl (am_cal (S_Model_takeFrom l w) (am_cal (S_Model_take l w) (fun _ h => absurd h List.not_mem_nil))) s_Model_takeAll h_Model_takeAll
set_option maxRecDepth 100000 in
theorem of_Model_takeAll {Q : Int → AMem → Prop} {σ : AMem} (h : ∀ X : Nat → List Int → AMem → Prop, (∀ (σ : AMem), B_Model_takeAll_0 X Q σ → X 0 [9790] σ) → (∀ (x1 : Int) (σ : AMem), B_Model_takeAll_1 X Q x1 σ → X 1 [9790, x1] σ) → (∀ (x1 : Int) (σ : AMem), B_Model_takeAll_2 X Q x1 σ → X 2 [9790, x1] σ) → (∀ (x1 : Int) (σ : AMem), B_Model_takeAll_3 X Q x1 σ → X 3 [9790, x1] σ) → (∀ (x1 : Int) (σ : AMem), B_Model_takeAll_4 X Q x1 σ → X 4 [9790, x1] σ) → X 0 [9790] σ) : T_Model_takeAll [9790] σ Q := fun X hX => h X (fun σ h => hX 0 [9790] σ h) (fun x1 σ h => hX 1 [9790, x1] σ h) (fun x1 σ h => hX 2 [9790, x1] σ h) (fun x1 σ h => hX 3 [9790, x1] σ h) (fun x1 σ h => hX 4 [9790, x1] σ h)
def c_Model_ownNames : List aE := [(0, 1, .iconst 1, 1, 0, 0, []), (1, 0, .istore_n 1, 1, 0, 0, []), (2, 2, .iload_n 1, 1, 0, 0, []), (3, 0, .iconst 5, 1, 0, 0, []), (4, 0, .if_icmp .ge 113, 3, 0, 0, []), (7, 0, .iload_n 1, 1, 0, 0, []), (8, 0, .iconst 1, 1, 0, 0, []), (9, 0, .if_icmp .ne 7, 3, 0, 0, []), (12, 0, .iconst 0, 1, 0, 0, []), (13, 0, .goto 25, 3, 0, 0, []), (16, 0, .iload_n 1, 1, 0, 0, []), (17, 0, .iconst 2, 1, 0, 0, []), (18, 0, .if_icmp .ne 8, 3, 0, 0, []), (21, 0, .bipush 6, 2, 0, 0, []), (23, 0, .goto 15, 3, 0, 0, []), (26, 0, .iload_n 1, 1, 0, 0, []), (27, 0, .iconst 3, 1, 0, 0, []), (28, 0, .if_icmp .ne 8, 3, 0, 0, []), (31, 0, .bipush 12, 2, 0, 0, []), (33, 0, .goto 5, 3, 0, 0, []), (36, 0, .bipush 23, 2, 0, 0, []), (38, 3, .istore_n 2, 1, 0, 0, []), (39, 0, .aload_n 0, 1, 0, 0, []), (40, 0, .aload_n 0, 1, 0, 0, []), (41, 0, .getfield 215, 3, 8, 97, [2, 0, 7046]), (44, 0, .iload_n 2, 1, 0, 0, []), (45, 0, .iload_n 1, 1, 0, 0, []), (46, 0, .iconst 1, 1, 0, 0, []), (47, 0, .if_icmp .ne 8, 3, 0, 0, []), (50, 0, .bipush 6, 2, 0, 0, []), (52, 0, .goto 25, 3, 0, 0, []), (55, 0, .iload_n 1, 1, 0, 0, []), (56, 0, .iconst 2, 1, 0, 0, []), (57, 0, .if_icmp .ne 8, 3, 0, 0, []), (60, 0, .bipush 12, 2, 0, 0, []), (62, 0, .goto 15, 3, 0, 0, []), (65, 0, .iload_n 1, 1, 0, 0, []), (66, 0, .iconst 3, 1, 0, 0, []), (67, 0, .if_icmp .ne 8, 3, 0, 0, []), (70, 0, .bipush 23, 2, 0, 0, []), (72, 0, .goto 5, 3, 0, 0, []), (75, 0, .bipush 27, 2, 0, 0, []), (77, 4, .invokevirtual 479, 3, 229, 8, [9088]), (80, 0, .istore_n 3, 1, 0, 0, []), (81, 0, .iload_n 3, 1, 0, 0, []), (82, 0, .ifCond .lt 29, 3, 0, 0, []), (85, 0, .aload_n 0, 1, 0, 0, []), (86, 0, .getfield 60, 3, 8, 23, [2, 0, 6212]), (89, 0, .iload_n 3, 1, 0, 0, []), (90, 0, .iaload, 1, 0, 0, []), (91, 0, .ifCond .le 6, 3, 0, 0, []), (94, 0, .goto 17, 3, 0, 0, []), (97, 0, .aload_n 0, 1, 0, 0, []), (98, 0, .getfield 60, 3, 8, 23, [2, 0, 6212]), (101, 0, .iload_n 3, 1, 0, 0, []), (102, 0, .iconst 4, 1, 0, 0, []), (103, 0, .iastore, 1, 0, 0, []), (104, 0, .aload_n 0, 1, 0, 0, []), (105, 0, .getfield 181, 3, 8, 73, [2, 0, 7022]), (108, 0, .iload_n 3, 1, 0, 0, []), (109, 0, .iload_n 1, 1, 0, 0, []), (110, 0, .iastore, 1, 0, 0, []), (111, 5, .iinc 1 1, 3, 0, 0, []), (114, 0, .goto (-112), 3, 0, 0, []), (117, 0, .return_, 1, 0, 0, [])]
def m_Model_ownNames : List aT := [(0, [(0, 2)], []), (2, [(0, 2), (1, 0)], []), (38, [(0, 2), (1, 0)], [0]), (77, [(0, 2), (1, 0)], [0, 0, 2, 2]), (111, [(0, 2), (1, 0)], [])]
def B_Model_ownNames_0 (X : Nat → List Int → AMem → Prop) (Q : Int → AMem → Prop) (σ : AMem) : Prop :=
  X 1 [9790, 1] σ
def B_Model_ownNames_1 (X : Nat → List Int → AMem → Prop) (Q : Int → AMem → Prop) (x1 : Int) (σ : AMem) : Prop :=
  (if x1 < 5 then
  (if x1 = 1 then
    X 2 [9790, x1, 0] σ
    else
    (if x1 = 2 then
      X 2 [9790, x1, 6] σ
      else
      (if x1 = 3 then
        X 2 [9790, x1, 12] σ
        else
        X 2 [9790, x1, 23] σ)))
  else
  Q 0 σ)
def B_Model_ownNames_2 (X : Nat → List Int → AMem → Prop) (Q : Int → AMem → Prop) (x1 s0 : Int) (σ : AMem) : Prop :=
  (if x1 = 1 then
  X 3 [9790, x1, 6, s0, 9856, 9790] σ
  else
  (if x1 = 2 then
    X 3 [9790, x1, 12, s0, 9856, 9790] σ
    else
    (if x1 = 3 then
      X 3 [9790, x1, 23, s0, 9856, 9790] σ
      else
      X 3 [9790, x1, 27, s0, 9856, 9790] σ)))
def B_Model_ownNames_3 (X : Nat → List Int → AMem → Prop) (Q : Int → AMem → Prop) (x1 s0 s1 s2 s3 : Int) (σ : AMem) : Prop :=
  (if ly_k s3 = 28 then T_Model_find [s3, s2, s1, s0] σ (fun r1 σ2 => (if r1 < 0 then
  X 4 [9790, x1] σ2
  else
  0 ≤ r1 ∧ r1 < 4096 ∧ (if 0 < (σ2 9805 r1) then
    X 4 [9790, x1] σ2
    else
    0 ≤ r1 ∧ r1 < 4096 ∧ am_let (am_upd σ2 9805 r1 4) (fun σ3 => 0 ≤ r1 ∧ r1 < 4096 ∧ am_let (am_upd σ3 9845 r1 x1) (fun σ4 => X 4 [9790, x1] σ4))))) else False)
def B_Model_ownNames_4 (X : Nat → List Int → AMem → Prop) (Q : Int → AMem → Prop) (x1 : Int) (σ : AMem) : Prop :=
  am_r32 (x1 + 1) ∧ X 1 [9790, (x1 + 1)] σ
def B_Model_ownNames : (Nat → List Int → AMem → Prop) → (Int → AMem → Prop) → Nat → List Int → AMem → Prop := fun X Q j v σ => am_sel [(am_v1 (fun t σ => if t = 9790 then B_Model_ownNames_0 X Q σ else False)), (am_v2 (fun t x1 σ => if t = 9790 then B_Model_ownNames_1 X Q x1 σ else False)), (am_v3 (fun t x1 s0 σ => if t = 9790 then B_Model_ownNames_2 X Q x1 s0 σ else False)), (am_v6 (fun t x1 s0 s1 s2 s3 σ => if t = 9790 then B_Model_ownNames_3 X Q x1 s0 s1 s2 s3 σ else False)), (am_v2 (fun t x1 σ => if t = 9790 then B_Model_ownNames_4 X Q x1 σ else False))] j v σ
def T_Model_ownNames : List Int → AMem → (Int → AMem → Prop) → Prop := am_T B_Model_ownNames
abbrev y_Model_ownNames : MethodName := ⟨"LinkHouseModel", "ownNames", "()V"⟩
def a_Model_ownNames : AC := (247, (y_Model_ownNames, prog_10_method_72_code, 4, (Option.none : Option Jvm.ClassFile.FieldType)), [2], 3, false, { frames := 1, cells := 0, slots := 0, locals := 34 }, T_Model_ownNames)
set_option maxRecDepth 100000 in
theorem ms_Model_ownNames : am_MSp a_Model_ownNames := am_ms_v 9155 9 9154 109003 8 rfl (by decide +kernel)
abbrev k_Model_ownNames : List AC := [a_Model_find]
set_option maxRecDepth 100000 in
theorem s_Model_ownNames : (am_chkR { frames := 1, cells := 0, slots := 0, locals := 34 } k_Model_ownNames && am_chkN c_Model_ownNames { frames := 1, cells := 0, slots := 0, locals := 34 } && c_Model_ownNames.all (am_chk "LinkHouseModel" prog_10_method_72_code 4 (Option.none : Option Jvm.ClassFile.FieldType) k_Model_ownNames) && c_Model_ownNames.all (am_chkL m_Model_ownNames) && decide (m_Model_ownNames[0]? = some (0, am_argp 0 [2], [])) && decide (am_argn [2] ≤ 4)) = true := by decide +kernel
set_option maxHeartbeats 150000 in
set_option maxRecDepth 100000 in
theorem h_Model_ownNames : ∀ X Q j v σ, B_Model_ownNames X Q j v σ → am_at GR k_Model_ownNames c_Model_ownNames m_Model_ownNames X Q 70 j v σ := fun X Q => am_sel_all (P := fun j v σ => am_at GR k_Model_ownNames c_Model_ownNames m_Model_ownNames X Q 70 j v σ) (⟨(am_v1_of (fun t σ h => am_tk (fun e => by subst e; exact fun h => h) h)), ⟨(am_v2_of (fun t x1 σ h => am_tk (fun e => by subst e; exact fun h => h) h)), ⟨(am_v3_of (fun t x1 s0 σ h => am_tk (fun e => by subst e; exact fun h => h) h)), ⟨(am_v6_of (fun t x1 s0 s1 s2 s3 σ h => am_tk (fun e => by subst e; exact fun h => h) h)), ⟨(am_v2_of (fun t x1 σ h => am_tk (fun e => by subst e; exact fun h => h) h)), trivial⟩⟩⟩⟩⟩)
set_option maxRecDepth 100000 in
theorem S_Model_ownNames (l : Launch) (w : AW) : am_S l w GR a_Model_ownNames := am_sound (rt := 3) (cal := k_Model_ownNames) 247 y_Model_ownNames prog_10_method_72_code 4 (Option.none : Option Jvm.ClassFile.FieldType) [2] false { frames := 1, cells := 0, slots := 0, locals := 34 } B_Model_ownNames "LinkHouseModel" c_Model_ownNames m_Model_ownNames 70 ms_Model_ownNames (by decide +kernel) rfl rfl (am_cal (S_Model_find l w) (fun _ h => absurd h List.not_mem_nil)) s_Model_ownNames h_Model_ownNames
set_option maxRecDepth 100000 in
theorem of_Model_ownNames {Q : Int → AMem → Prop} {σ : AMem} (h : ∀ X : Nat → List Int → AMem → Prop, (∀ (σ : AMem), B_Model_ownNames_0 X Q σ → X 0 [9790] σ) → (∀ (x1 : Int) (σ : AMem), B_Model_ownNames_1 X Q x1 σ → X 1 [9790, x1] σ) → (∀ (x1 s0 : Int) (σ : AMem), B_Model_ownNames_2 X Q x1 s0 σ → X 2 [9790, x1, s0] σ) → (∀ (x1 s0 s1 s2 s3 : Int) (σ : AMem), B_Model_ownNames_3 X Q x1 s0 s1 s2 s3 σ → X 3 [9790, x1, s0, s1, s2, s3] σ) → (∀ (x1 : Int) (σ : AMem), B_Model_ownNames_4 X Q x1 σ → X 4 [9790, x1] σ) → X 0 [9790] σ) : T_Model_ownNames [9790] σ Q := fun X hX => h X (fun σ h => hX 0 [9790] σ h) (fun x1 σ h => hX 1 [9790, x1] σ h) (fun x1 s0 σ h => hX 2 [9790, x1, s0] σ h) (fun x1 s0 s1 s2 s3 σ h => hX 3 [9790, x1, s0, s1, s2, s3] σ h) (fun x1 σ h => hX 4 [9790, x1] σ h)
def c_Model_start : List aE := [(0, 1, .aload_n 0, 1, 0, 0, []), (1, 0, .aload_n 0, 1, 0, 0, []), (2, 0, .getfield 254, 3, 8, 116, [2, 0, 7065]), (5, 0, .iconst 0, 1, 0, 0, []), (6, 0, .bipush 6, 2, 0, 0, []), (8, 0, .invokevirtual 479, 3, 229, 8, [9088]), (11, 0, .istore_n 1, 1, 0, 0, []), (12, 0, .iload_n 1, 1, 0, 0, []), (13, 0, .ifCond .lt 16, 3, 0, 0, []), (16, 0, .aload_n 0, 1, 0, 0, []), (17, 0, .getfield 60, 3, 8, 23, [2, 0, 6212]), (20, 0, .iload_n 1, 1, 0, 0, []), (21, 0, .iaload, 1, 0, 0, []), (22, 0, .ifCond .le 7, 3, 0, 0, []), (25, 0, .iload_n 1, 1, 0, 0, []), (26, 0, .goto 4, 3, 0, 0, []), (29, 0, .iconst (-1), 1, 0, 0, []), (30, 0, .ireturn, 1, 0, 0, [])]
def m_Model_start : List aT := [(0, [(0, 2)], [])]
def B_Model_start_0 (X : Nat → List Int → AMem → Prop) (Q : Int → AMem → Prop) (σ : AMem) : Prop :=
  T_Model_find [9790, 9869, 0, 6] σ (fun r1 σ2 => (if r1 < 0 then
  Q (-1) σ2
  else
  0 ≤ r1 ∧ r1 < 4096 ∧ (if 0 < (σ2 9805 r1) then
    Q r1 σ2
    else
    Q (-1) σ2)))
def B_Model_start : (Nat → List Int → AMem → Prop) → (Int → AMem → Prop) → Nat → List Int → AMem → Prop := fun X Q j v σ => am_sel [(am_v1 (fun t σ => if t = 9790 then B_Model_start_0 X Q σ else False))] j v σ
def T_Model_start : List Int → AMem → (Int → AMem → Prop) → Prop := am_T B_Model_start
abbrev y_Model_start : MethodName := ⟨"LinkHouseModel", "start", "()I"⟩
def a_Model_start : AC := (248, (y_Model_start, prog_10_method_84_code, 2, (Option.some Jvm.ClassFile.FieldType.int)), [2], 0, false, { frames := 1, cells := 0, slots := 0, locals := 34 }, T_Model_start)
set_option maxRecDepth 100000 in
theorem ms_Model_start : am_MSp a_Model_start := am_ms_v 9163 9 9162 109005 8 rfl (by decide +kernel)
abbrev k_Model_start : List AC := [a_Model_find]
set_option maxRecDepth 100000 in
theorem s_Model_start : (am_chkR { frames := 1, cells := 0, slots := 0, locals := 34 } k_Model_start && am_chkN c_Model_start { frames := 1, cells := 0, slots := 0, locals := 34 } && c_Model_start.all (am_chk "LinkHouseModel" prog_10_method_84_code 2 (Option.some Jvm.ClassFile.FieldType.int) k_Model_start) && c_Model_start.all (am_chkL m_Model_start) && decide (m_Model_start[0]? = some (0, am_argp 0 [2], [])) && decide (am_argn [2] ≤ 2)) = true := by decide +kernel
set_option maxHeartbeats 150000 in
set_option maxRecDepth 100000 in
theorem h_Model_start : ∀ X Q j v σ, B_Model_start X Q j v σ → am_at GR k_Model_start c_Model_start m_Model_start X Q 23 j v σ := fun X Q => am_sel_all (P := fun j v σ => am_at GR k_Model_start c_Model_start m_Model_start X Q 23 j v σ) (⟨(am_v1_of (fun t σ h => am_tk (fun e => by subst e; exact fun h => h) h)), trivial⟩)
set_option maxRecDepth 100000 in
theorem S_Model_start (l : Launch) (w : AW) : am_S l w GR a_Model_start := am_sound (rt := 0) (cal := k_Model_start) 248 y_Model_start prog_10_method_84_code 2 (Option.some Jvm.ClassFile.FieldType.int) [2] false { frames := 1, cells := 0, slots := 0, locals := 34 } B_Model_start "LinkHouseModel" c_Model_start m_Model_start 23 ms_Model_start (by decide +kernel) rfl rfl (am_cal (S_Model_find l w) (fun _ h => absurd h List.not_mem_nil)) s_Model_start h_Model_start
set_option maxRecDepth 100000 in
theorem of_Model_start {Q : Int → AMem → Prop} {σ : AMem} (h : ∀ X : Nat → List Int → AMem → Prop, (∀ (σ : AMem), B_Model_start_0 X Q σ → X 0 [9790] σ) → X 0 [9790] σ) : T_Model_start [9790] σ Q := fun X hX => h X (fun σ h => hX 0 [9790] σ h)
set_option maxRecDepth 100000 in
theorem iff_Model_start {Q : Int → AMem → Prop} {X : Nat → List Int → AMem → Prop} {σ : AMem} : T_Model_start [9790] σ Q ↔ B_Model_start_0 X Q σ := ⟨fun h => h (fun j v σ => B_Model_start X Q j v σ) (fun _ _ _ q => q), fun h _ hX => hX 0 _ _ h⟩
def c_Model_look2 : List aE := [(0, 1, .iconst 0, 1, 0, 0, []), (1, 0, .istore_n 1, 1, 0, 0, []), (2, 2, .iload_n 1, 1, 0, 0, []), (3, 0, .aload_n 0, 1, 0, 0, []), (4, 0, .getfield 492, 3, 8, 32, [0, 0, 6221]), (7, 0, .if_icmp .ge 75, 3, 0, 0, []), (10, 0, .aload_n 0, 1, 0, 0, []), (11, 0, .getfield 40, 3, 8, 13, [0, 0, 6202]), (14, 0, .ifCond .ne 68, 3, 0, 0, []), (17, 0, .aload_n 0, 1, 0, 0, []), (18, 0, .aload_n 0, 1, 0, 0, []), (19, 0, .getfield 88, 3, 8, 34, [2, 0, 6223]), (22, 0, .bipush 20, 2, 0, 0, []), (24, 0, .iload_n 1, 1, 0, 0, []), (25, 0, .imul, 1, 0, 0, []), (26, 0, .bipush 20, 2, 0, 0, []), (28, 0, .iload_n 1, 1, 0, 0, []), (29, 0, .imul, 1, 0, 0, []), (30, 0, .aload_n 0, 1, 0, 0, []), (31, 0, .getfield 94, 3, 8, 36, [2, 0, 6225]), (34, 0, .iload_n 1, 1, 0, 0, []), (35, 0, .iaload, 1, 0, 0, []), (36, 0, .iadd, 1, 0, 0, []), (37, 0, .invokevirtual 479, 3, 229, 8, [9088]), (40, 0, .istore_n 2, 1, 0, 0, []), (41, 0, .aload_n 0, 1, 0, 0, []), (42, 0, .getfield 60, 3, 8, 23, [2, 0, 6212]), (45, 0, .iload_n 2, 1, 0, 0, []), (46, 0, .iaload, 1, 0, 0, []), (47, 0, .ifCond .le 6, 3, 0, 0, []), (50, 0, .goto 26, 3, 0, 0, []), (53, 0, .aload_n 0, 1, 0, 0, []), (54, 0, .iconst 2, 1, 0, 0, []), (55, 0, .putfield 40, 3, 8, 13, [0, 0, 6202]), (58, 0, .aload_n 0, 1, 0, 0, []), (59, 0, .aload_n 0, 1, 0, 0, []), (60, 0, .getfield 54, 3, 8, 21, [2, 0, 6210]), (63, 0, .bipush 20, 2, 0, 0, []), (65, 0, .iload_n 2, 1, 0, 0, []), (66, 0, .imul, 1, 0, 0, []), (67, 0, .aload_n 0, 1, 0, 0, []), (68, 0, .getfield 57, 3, 8, 22, [2, 0, 6211]), (71, 0, .iload_n 2, 1, 0, 0, []), (72, 0, .iaload, 1, 0, 0, []), (73, 0, .invokevirtual 544, 3, 243, 8, [9148]), (76, 3, .iinc 1 1, 3, 0, 0, []), (79, 0, .goto (-77), 3, 0, 0, []), (82, 4, .iconst 0, 1, 0, 0, []), (83, 0, .istore_n 1, 1, 0, 0, []), (84, 5, .iload_n 1, 1, 0, 0, []), (85, 0, .aload_n 0, 1, 0, 0, []), (86, 0, .getfield 531, 3, 8, 14, [0, 0, 6203]), (89, 0, .if_icmp .ge 114, 3, 0, 0, []), (92, 0, .aload_n 0, 1, 0, 0, []), (93, 0, .getfield 40, 3, 8, 13, [0, 0, 6202]), (96, 0, .ifCond .ne 107, 3, 0, 0, []), (99, 0, .aload_n 0, 1, 0, 0, []), (100, 0, .iload_n 1, 1, 0, 0, []), (101, 0, .invokevirtual 503, 3, 236, 8, [9124]), (104, 0, .istore_n 2, 1, 0, 0, []), (105, 0, .iconst 1, 1, 0, 0, []), (106, 0, .istore_n 3, 1, 0, 0, []), (107, 6, .iload_n 3, 1, 0, 0, []), (108, 0, .aload_n 0, 1, 0, 0, []), (109, 0, .iload_n 2, 1, 0, 0, []), (110, 0, .invokevirtual 366, 3, 198, 8, [8197]), (113, 0, .if_icmp .ge 84, 3, 0, 0, []), (116, 0, .aload_n 0, 1, 0, 0, []), (117, 0, .getfield 40, 3, 8, 13, [0, 0, 6202]), (120, 0, .ifCond .ne 77, 3, 0, 0, []), (123, 0, .aload_n 0, 1, 0, 0, []), (124, 0, .iload_n 2, 1, 0, 0, []), (125, 0, .iload_n 3, 1, 0, 0, []), (126, 0, .invokevirtual 375, 3, 201, 8, [8213]), (129, 0, .iconst 1, 1, 0, 0, []), (130, 0, .if_icmp .ne 61, 3, 0, 0, []), (133, 0, .aload_n 0, 1, 0, 0, []), (134, 0, .iload_n 1, 1, 0, 0, []), (135, 0, .iload_n 3, 1, 0, 0, []), (136, 0, .invokevirtual 506, 3, 240, 8, [9144]), (139, 0, .ifCond .eq 6, 3, 0, 0, []), (142, 0, .goto 49, 3, 0, 0, []), (145, 0, .aload_n 0, 1, 0, 0, []), (146, 0, .iload_n 2, 1, 0, 0, []), (147, 0, .iload_n 3, 1, 0, 0, []), (148, 0, .invokevirtual 541, 3, 234, 8, [9104]), (151, 0, .istore 4, 2, 0, 0, []), (153, 0, .aload_n 0, 1, 0, 0, []), (154, 0, .getfield 60, 3, 8, 23, [2, 0, 6212]), (157, 0, .iload 4, 2, 0, 0, []), (159, 0, .iaload, 1, 0, 0, []), (160, 0, .ifCond .le 6, 3, 0, 0, []), (163, 0, .goto 28, 3, 0, 0, []), (166, 0, .aload_n 0, 1, 0, 0, []), (167, 0, .iconst 2, 1, 0, 0, []), (168, 0, .putfield 40, 3, 8, 13, [0, 0, 6202]), (171, 0, .aload_n 0, 1, 0, 0, []), (172, 0, .aload_n 0, 1, 0, 0, []), (173, 0, .getfield 54, 3, 8, 21, [2, 0, 6210]), (176, 0, .bipush 20, 2, 0, 0, []), (178, 0, .iload 4, 2, 0, 0, []), (180, 0, .imul, 1, 0, 0, []), (181, 0, .aload_n 0, 1, 0, 0, []), (182, 0, .getfield 57, 3, 8, 22, [2, 0, 6211]), (185, 0, .iload 4, 2, 0, 0, []), (187, 0, .iaload, 1, 0, 0, []), (188, 0, .invokevirtual 544, 3, 243, 8, [9148]), (191, 7, .iinc 3 1, 3, 0, 0, []), (194, 0, .goto (-87), 3, 0, 0, []), (197, 8, .iinc 1 1, 3, 0, 0, []), (200, 0, .goto (-116), 3, 0, 0, []), (203, 9, .aload_n 0, 1, 0, 0, []), (204, 0, .getfield 40, 3, 8, 13, [0, 0, 6202]), (207, 0, .ifCond .ne 10, 3, 0, 0, []), (210, 0, .aload_n 0, 1, 0, 0, []), (211, 0, .invokevirtual 570, 3, 248, 8, [9160]), (214, 0, .ifCond .lt 4, 3, 0, 0, []), (217, 0, .return_, 1, 0, 0, []), (218, 0, .aload_n 0, 1, 0, 0, []), (219, 0, .iconst 2, 1, 0, 0, []), (220, 0, .putfield 40, 3, 8, 13, [0, 0, 6202]), (223, 0, .iconst 0, 1, 0, 0, []), (224, 0, .istore_n 1, 1, 0, 0, []), (225, 10, .iload_n 1, 1, 0, 0, []), (226, 0, .bipush 6, 2, 0, 0, []), (228, 0, .if_icmp .ge 21, 3, 0, 0, []), (231, 0, .aload_n 0, 1, 0, 0, []), (232, 0, .getfield 14, 3, 8, 3, [2, 0, 6192]), (235, 0, .iload_n 1, 1, 0, 0, []), (236, 0, .aload_n 0, 1, 0, 0, []), (237, 0, .getfield 254, 3, 8, 116, [2, 0, 7065]), (240, 0, .iload_n 1, 1, 0, 0, []), (241, 0, .baload, 1, 2, 0, []), (242, 0, .bastore, 1, 2, 0, []), (243, 0, .iinc 1 1, 3, 0, 0, []), (246, 0, .goto (-21), 3, 0, 0, []), (249, 0, .aload_n 0, 1, 0, 0, []), (250, 0, .bipush 6, 2, 0, 0, []), (252, 0, .putfield 519, 3, 8, 4, [0, 0, 6193]), (255, 0, .return_, 1, 0, 0, [])]
def m_Model_look2 : List aT := [(0, [(0, 2)], []), (2, [(0, 2), (1, 0)], []), (76, [(0, 2), (1, 0)], []), (82, [(0, 2)], []), (84, [(0, 2), (1, 0)], []), (107, [(0, 2), (1, 0), (2, 0), (3, 0)], []), (191, [(0, 2), (1, 0), (2, 0), (3, 0)], []), (197, [(0, 2), (1, 0)], []), (203, [(0, 2)], []), (225, [(0, 2), (1, 0)], [])]
def B_Model_look2_0 (X : Nat → List Int → AMem → Prop) (Q : Int → AMem → Prop) (σ : AMem) : Prop :=
  X 1 [9790, 0] σ
def B_Model_look2_1 (X : Nat → List Int → AMem → Prop) (Q : Int → AMem → Prop) (x1 : Int) (σ : AMem) : Prop :=
  (if x1 < (σ 9790 32) then
  (if (σ 9790 13) = 0 then
    am_r32 (20 * x1) ∧ am_r32 (20 * x1) ∧ 0 ≤ x1 ∧ x1 < 16 ∧ am_r32 ((20 * x1) + (σ 9816 x1)) ∧ T_Model_find [9790, 9814, (20 * x1), ((20 * x1) + (σ 9816 x1))] σ (fun r1 σ2 => 0 ≤ r1 ∧ r1 < 4096 ∧ (if 0 < (σ2 9805 r1) then
      X 2 [9790, x1] σ2
      else
      am_let (am_upd σ2 9790 13 2) (fun σ3 => am_r32 (20 * r1) ∧ 0 ≤ r1 ∧ r1 < 4096 ∧ T_Model_say [9790, 9803, (20 * r1), (σ3 9804 r1)] σ3 (fun r4 σ5 => X 2 [9790, x1] σ5))))
    else
    X 3 [9790] σ)
  else
  X 3 [9790] σ)
def B_Model_look2_2 (X : Nat → List Int → AMem → Prop) (Q : Int → AMem → Prop) (x1 : Int) (σ : AMem) : Prop :=
  am_r32 (x1 + 1) ∧ X 1 [9790, (x1 + 1)] σ
def B_Model_look2_3 (X : Nat → List Int → AMem → Prop) (Q : Int → AMem → Prop) (σ : AMem) : Prop :=
  X 4 [9790, 0] σ
def B_Model_look2_4 (X : Nat → List Int → AMem → Prop) (Q : Int → AMem → Prop) (x1 : Int) (σ : AMem) : Prop :=
  (if x1 < (σ 9790 14) then
  (if (σ 9790 13) = 0 then
    T_Model_object [9790, x1] σ (fun r1 σ2 => X 5 [9790, x1, r1, 1] σ2)
    else
    X 8 [9790] σ)
  else
  X 8 [9790] σ)
def B_Model_look2_5 (X : Nat → List Int → AMem → Prop) (Q : Int → AMem → Prop) (x1 x2 x3 : Int) (σ : AMem) : Prop :=
  T_Model_symbolMany [9790, x2] σ (fun r1 σ2 => (if x3 < r1 then
  (if (σ2 9790 13) = 0 then
    T_Model_bind [9790, x2, x3] σ2 (fun r3 σ4 => (if r3 = 1 then
      T_Model_whereNow [9790, x1, x3] σ4 (fun r5 σ6 => (if r5 = 0 then
        T_Model_nameOf [9790, x2, x3] σ6 (fun r7 σ8 => 0 ≤ r7 ∧ r7 < 4096 ∧ (if 0 < (σ8 9805 r7) then
          X 6 [9790, x1, x2, x3] σ8
          else
          am_let (am_upd σ8 9790 13 2) (fun σ9 => am_r32 (20 * r7) ∧ 0 ≤ r7 ∧ r7 < 4096 ∧ T_Model_say [9790, 9803, (20 * r7), (σ9 9804 r7)] σ9 (fun r10 σ11 => X 6 [9790, x1, x2, x3] σ11))))
        else
        X 6 [9790, x1, x2, x3] σ6))
      else
      X 6 [9790, x1, x2, x3] σ4))
    else
    X 7 [9790, x1] σ2)
  else
  X 7 [9790, x1] σ2))
def B_Model_look2_6 (X : Nat → List Int → AMem → Prop) (Q : Int → AMem → Prop) (x1 x2 x3 : Int) (σ : AMem) : Prop :=
  am_r32 (x3 + 1) ∧ X 5 [9790, x1, x2, (x3 + 1)] σ
def B_Model_look2_7 (X : Nat → List Int → AMem → Prop) (Q : Int → AMem → Prop) (x1 : Int) (σ : AMem) : Prop :=
  am_r32 (x1 + 1) ∧ X 4 [9790, (x1 + 1)] σ
def B_Model_look2_8 (X : Nat → List Int → AMem → Prop) (Q : Int → AMem → Prop) (σ : AMem) : Prop :=
  (if (σ 9790 13) = 0 then
  T_Model_start [9790] σ (fun r1 σ2 => (if r1 < 0 then
    am_let (am_upd σ2 9790 13 2) (fun σ3 => X 9 [9790, 0] σ3)
    else
    Q 0 σ2))
  else
  Q 0 σ)
def B_Model_look2_9 (X : Nat → List Int → AMem → Prop) (Q : Int → AMem → Prop) (x1 : Int) (σ : AMem) : Prop :=
  (if x1 < 6 then
  0 ≤ x1 ∧ x1 < 6 ∧ 0 ≤ x1 ∧ x1 < 65536 ∧ am_let (am_upd σ 9792 x1 (w8 (σ 9869 x1))) (fun σ2 => am_r32 (x1 + 1) ∧ X 9 [9790, (x1 + 1)] σ2)
  else
  am_let (am_upd σ 9790 4 6) (fun σ1 => Q 0 σ1))
def B_Model_look2 : (Nat → List Int → AMem → Prop) → (Int → AMem → Prop) → Nat → List Int → AMem → Prop := fun X Q j v σ => am_sel [(am_v1 (fun t σ => if t = 9790 then B_Model_look2_0 X Q σ else False)), (am_v2 (fun t x1 σ => if t = 9790 then B_Model_look2_1 X Q x1 σ else False)), (am_v2 (fun t x1 σ => if t = 9790 then B_Model_look2_2 X Q x1 σ else False)), (am_v1 (fun t σ => if t = 9790 then B_Model_look2_3 X Q σ else False)), (am_v2 (fun t x1 σ => if t = 9790 then B_Model_look2_4 X Q x1 σ else False)), (am_v4 (fun t x1 x2 x3 σ => if t = 9790 then B_Model_look2_5 X Q x1 x2 x3 σ else False)), (am_v4 (fun t x1 x2 x3 σ => if t = 9790 then B_Model_look2_6 X Q x1 x2 x3 σ else False)), (am_v2 (fun t x1 σ => if t = 9790 then B_Model_look2_7 X Q x1 σ else False)), (am_v1 (fun t σ => if t = 9790 then B_Model_look2_8 X Q σ else False)), (am_v2 (fun t x1 σ => if t = 9790 then B_Model_look2_9 X Q x1 σ else False))] j v σ
def T_Model_look2 : List Int → AMem → (Int → AMem → Prop) → Prop := am_T B_Model_look2
abbrev y_Model_look2 : MethodName := ⟨"LinkHouseModel", "look2", "()V"⟩
def a_Model_look2 : AC := (249, (y_Model_look2, prog_10_method_83_code, 5, (Option.none : Option Jvm.ClassFile.FieldType)), [2], 3, false, { frames := 8, cells := 0, slots := 0, locals := 244 }, T_Model_look2)
set_option maxRecDepth 100000 in
theorem ms_Model_look2 : am_MSp a_Model_look2 := am_ms_v 9159 9 9158 109004 8 rfl (by decide +kernel)
abbrev k_Model_look2 : List AC := [a_Model_find, a_Model_say, a_Model_object, a_Model_symbolMany, a_Model_bind, a_Model_whereNow, a_Model_nameOf, a_Model_start]
set_option maxRecDepth 100000 in
theorem s_Model_look2 : (am_chkR { frames := 8, cells := 0, slots := 0, locals := 244 } k_Model_look2 && am_chkN c_Model_look2 { frames := 8, cells := 0, slots := 0, locals := 244 } && c_Model_look2.all (am_chk "LinkHouseModel" prog_10_method_83_code 5 (Option.none : Option Jvm.ClassFile.FieldType) k_Model_look2) && c_Model_look2.all (am_chkL m_Model_look2) && decide (m_Model_look2[0]? = some (0, am_argp 0 [2], [])) && decide (am_argn [2] ≤ 5)) = true := by decide +kernel
set_option maxHeartbeats 150000 in
set_option maxRecDepth 100000 in
theorem h_Model_look2 : ∀ X Q j v σ, B_Model_look2 X Q j v σ → am_at GR k_Model_look2 c_Model_look2 m_Model_look2 X Q 145 j v σ := fun X Q => am_sel_all (P := fun j v σ => am_at GR k_Model_look2 c_Model_look2 m_Model_look2 X Q 145 j v σ) (⟨(am_v1_of (fun t σ h => am_tk (fun e => by subst e; exact fun h => h) h)), ⟨(am_v2_of (fun t x1 σ h => am_tk (fun e => by subst e; exact fun h => h) h)), ⟨(am_v2_of (fun t x1 σ h => am_tk (fun e => by subst e; exact fun h => h) h)), ⟨(am_v1_of (fun t σ h => am_tk (fun e => by subst e; exact fun h => h) h)), ⟨(am_v2_of (fun t x1 σ h => am_tk (fun e => by subst e; exact fun h => h) h)), ⟨(am_v4_of (fun t x1 x2 x3 σ h => am_tk (fun e => by subst e; exact fun h => h) h)), ⟨(am_v4_of (fun t x1 x2 x3 σ h => am_tk (fun e => by subst e; exact fun h => h) h)), ⟨(am_v2_of (fun t x1 σ h => am_tk (fun e => by subst e; exact fun h => h) h)), ⟨(am_v1_of (fun t σ h => am_tk (fun e => by subst e; exact fun h => h) h)), ⟨(am_v2_of (fun t x1 σ h => am_tk (fun e => by subst e; exact fun h => h) h)), trivial⟩⟩⟩⟩⟩⟩⟩⟩⟩⟩)
set_option maxRecDepth 100000 in
theorem S_Model_look2 (l : Launch) (w : AW) : am_S l w GR a_Model_look2 := am_sound (rt := 3) (cal := k_Model_look2) 249 y_Model_look2 prog_10_method_83_code 5 (Option.none : Option Jvm.ClassFile.FieldType) [2] false { frames := 8, cells := 0, slots := 0, locals := 244 } B_Model_look2 "LinkHouseModel" c_Model_look2 m_Model_look2 145 ms_Model_look2 (by decide +kernel) rfl rfl (am_cal (S_Model_find l w) (am_cal (S_Model_say l w) (am_cal (S_Model_object l w) (am_cal (S_Model_symbolMany l w) (am_cal (S_Model_bind l w) (am_cal (S_Model_whereNow l w) (am_cal (S_Model_nameOf l w) (am_cal (S_Model_start l w) (fun _ h => absurd h List.not_mem_nil))))))))) s_Model_look2 h_Model_look2
set_option maxRecDepth 100000 in
theorem of_Model_look2 {Q : Int → AMem → Prop} {σ : AMem} (h : ∀ X : Nat → List Int → AMem → Prop, (∀ (σ : AMem), B_Model_look2_0 X Q σ → X 0 [9790] σ) → (∀ (x1 : Int) (σ : AMem), B_Model_look2_1 X Q x1 σ → X 1 [9790, x1] σ) → (∀ (x1 : Int) (σ : AMem), B_Model_look2_2 X Q x1 σ → X 2 [9790, x1] σ) → (∀ (σ : AMem), B_Model_look2_3 X Q σ → X 3 [9790] σ) → (∀ (x1 : Int) (σ : AMem), B_Model_look2_4 X Q x1 σ → X 4 [9790, x1] σ) → (∀ (x1 x2 x3 : Int) (σ : AMem), B_Model_look2_5 X Q x1 x2 x3 σ → X 5 [9790, x1, x2, x3] σ) → (∀ (x1 x2 x3 : Int) (σ : AMem), B_Model_look2_6 X Q x1 x2 x3 σ → X 6 [9790, x1, x2, x3] σ) → (∀ (x1 : Int) (σ : AMem), B_Model_look2_7 X Q x1 σ → X 7 [9790, x1] σ) → (∀ (σ : AMem), B_Model_look2_8 X Q σ → X 8 [9790] σ) → (∀ (x1 : Int) (σ : AMem), B_Model_look2_9 X Q x1 σ → X 9 [9790, x1] σ) → X 0 [9790] σ) : T_Model_look2 [9790] σ Q := fun X hX => h X (fun σ h => hX 0 [9790] σ h) (fun x1 σ h => hX 1 [9790, x1] σ h) (fun x1 σ h => hX 2 [9790, x1] σ h) (fun σ h => hX 3 [9790] σ h) (fun x1 σ h => hX 4 [9790, x1] σ h) (fun x1 x2 x3 σ h => hX 5 [9790, x1, x2, x3] σ h) (fun x1 x2 x3 σ h => hX 6 [9790, x1, x2, x3] σ h) (fun x1 σ h => hX 7 [9790, x1] σ h) (fun σ h => hX 8 [9790] σ h) (fun x1 σ h => hX 9 [9790, x1] σ h)
def c_Model_isGiven : List aE := [(0, 1, .aload_n 0, 1, 0, 0, []), (1, 0, .getfield 60, 3, 8, 23, [2, 0, 6212]), (4, 0, .iload_n 1, 1, 0, 0, []), (5, 0, .iaload, 1, 0, 0, []), (6, 0, .iconst 3, 1, 0, 0, []), (7, 0, .if_icmp .ne 16, 3, 0, 0, []), (10, 0, .aload_n 0, 1, 0, 0, []), (11, 0, .getfield 63, 3, 8, 24, [2, 0, 6213]), (14, 0, .iload_n 1, 1, 0, 0, []), (15, 0, .iaload, 1, 0, 0, []), (16, 0, .ifCond .ge 7, 3, 0, 0, []), (19, 0, .iconst 1, 1, 0, 0, []), (20, 0, .goto 4, 3, 0, 0, []), (23, 0, .iconst 0, 1, 0, 0, []), (24, 0, .ireturn, 1, 1, 0, [])]
def m_Model_isGiven : List aT := [(0, [(0, 2), (1, 0)], [])]
def B_Model_isGiven_0 (X : Nat → List Int → AMem → Prop) (Q : Int → AMem → Prop) (x1 : Int) (σ : AMem) : Prop :=
  0 ≤ x1 ∧ x1 < 4096 ∧ (if (σ 9805 x1) = 3 then
  0 ≤ x1 ∧ x1 < 4096 ∧ (if (σ 9806 x1) < 0 then
    Q 1 σ
    else
    Q 0 σ)
  else
  Q 0 σ)
def B_Model_isGiven : (Nat → List Int → AMem → Prop) → (Int → AMem → Prop) → Nat → List Int → AMem → Prop := fun X Q j v σ => am_sel [(am_v2 (fun t x1 σ => if t = 9790 then B_Model_isGiven_0 X Q x1 σ else False))] j v σ
def T_Model_isGiven : List Int → AMem → (Int → AMem → Prop) → Prop := am_T B_Model_isGiven
abbrev y_Model_isGiven : MethodName := ⟨"LinkHouseModel", "isGiven", "(I)Z"⟩
def a_Model_isGiven : AC := (250, (y_Model_isGiven, prog_10_method_54_code, 2, (Option.some Jvm.ClassFile.FieldType.boolean)), [2, 0], 0, false, { frames := 0, cells := 0, slots := 0, locals := 0 }, T_Model_isGiven)
set_option maxRecDepth 100000 in
theorem ms_Model_isGiven : am_MSp a_Model_isGiven := am_ms_v 9175 9 9174 109008 8 rfl (by decide +kernel)
abbrev k_Model_isGiven : List AC := []
set_option maxRecDepth 100000 in
theorem s_Model_isGiven : (am_chkR { frames := 0, cells := 0, slots := 0, locals := 0 } k_Model_isGiven && am_chkN c_Model_isGiven { frames := 0, cells := 0, slots := 0, locals := 0 } && c_Model_isGiven.all (am_chk "LinkHouseModel" prog_10_method_54_code 2 (Option.some Jvm.ClassFile.FieldType.boolean) k_Model_isGiven) && c_Model_isGiven.all (am_chkL m_Model_isGiven) && decide (m_Model_isGiven[0]? = some (0, am_argp 0 [2, 0], [])) && decide (am_argn [2, 0] ≤ 2)) = true := by decide +kernel
set_option maxHeartbeats 150000 in
set_option maxRecDepth 100000 in
theorem h_Model_isGiven : ∀ X Q j v σ, B_Model_isGiven X Q j v σ → am_at GR k_Model_isGiven c_Model_isGiven m_Model_isGiven X Q 20 j v σ := fun X Q => am_sel_all (P := fun j v σ => am_at GR k_Model_isGiven c_Model_isGiven m_Model_isGiven X Q 20 j v σ) (⟨(am_v2_of (fun t x1 σ h => am_tk (fun e => by subst e; exact fun h => h) h)), trivial⟩)
set_option maxRecDepth 100000 in
theorem S_Model_isGiven (l : Launch) (w : AW) : am_S l w GR a_Model_isGiven := am_sound (rt := 0) (cal := k_Model_isGiven) 250 y_Model_isGiven prog_10_method_54_code 2 (Option.some Jvm.ClassFile.FieldType.boolean) [2, 0] false { frames := 0, cells := 0, slots := 0, locals := 0 } B_Model_isGiven "LinkHouseModel" c_Model_isGiven m_Model_isGiven 20 ms_Model_isGiven (by decide +kernel) rfl rfl (fun _ h => absurd h List.not_mem_nil) s_Model_isGiven h_Model_isGiven
set_option maxRecDepth 100000 in
theorem of_Model_isGiven {Q : Int → AMem → Prop} {x1 : Int} {σ : AMem} (h : ∀ X : Nat → List Int → AMem → Prop, (∀ (x1 : Int) (σ : AMem), B_Model_isGiven_0 X Q x1 σ → X 0 [9790, x1] σ) → X 0 [9790, x1] σ) : T_Model_isGiven [9790, x1] σ Q := fun X hX => h X (fun x1 σ h => hX 0 [9790, x1] σ h)
set_option maxRecDepth 100000 in
theorem iff_Model_isGiven {Q : Int → AMem → Prop} {X : Nat → List Int → AMem → Prop} {x1 : Int} {σ : AMem} : T_Model_isGiven [9790, x1] σ Q ↔ B_Model_isGiven_0 X Q x1 σ := ⟨fun h => h (fun j v σ => B_Model_isGiven X Q j v σ) (fun _ _ _ q => q), fun h _ hX => hX 0 _ _ h⟩
