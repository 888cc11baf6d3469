/-! methods: printed by gen/all.py -/
def c_Part_read : List aE := [(0, 1, .aload_n 0, 1, 0, 0, []), (1, 0, .getfield 97, 3, 7, 2, [0, 0, 1069]), (4, 0, .bipush 64, 2, 0, 0, []), (6, 0, .if_icmp .lt 88, 3, 0, 0, []), (9, 0, .aload_n 0, 1, 0, 0, []), (10, 0, .lconst 0, 1, 0, 0, []), (11, 0, .bipush 7, 2, 0, 0, []), (13, 0, .invokevirtual 112, 3, 11, 7, [3000]), (16, 0, .ldc2_w 116, 3, 282584257676671, 0, [5210]), (19, 0, .lcmp, 1, 0, 0, []), (20, 0, .ifCond .ne 74, 3, 0, 0, []), (23, 0, .aload_n 0, 1, 0, 0, []), (24, 0, .ldc2_w 118, 3, 16, 0, [5211]), (27, 0, .iconst 2, 1, 0, 0, []), (28, 0, .invokevirtual 112, 3, 11, 7, [3000]), (31, 0, .lconst 1, 1, 0, 0, []), (32, 0, .lcmp, 1, 0, 0, []), (33, 0, .ifCond .ne 61, 3, 0, 0, []), (36, 0, .aload_n 0, 1, 0, 0, []), (37, 0, .ldc2_w 120, 3, 18, 0, [5212]), (40, 0, .iconst 2, 1, 0, 0, []), (41, 0, .invokevirtual 112, 3, 11, 7, [3000]), (44, 0, .ldc2_w 122, 3, 62, 0, [5213]), (47, 0, .lcmp, 1, 0, 0, []), (48, 0, .ifCond .ne 46, 3, 0, 0, []), (51, 0, .aload_n 0, 1, 0, 0, []), (52, 0, .ldc2_w 124, 3, 20, 0, [5214]), (55, 0, .iconst 4, 1, 0, 0, []), (56, 0, .invokevirtual 112, 3, 11, 7, [3000]), (59, 0, .lconst 1, 1, 0, 0, []), (60, 0, .lcmp, 1, 0, 0, []), (61, 0, .ifCond .ne 33, 3, 0, 0, []), (64, 0, .aload_n 0, 1, 0, 0, []), (65, 0, .ldc2_w 126, 3, 52, 0, [5215]), (68, 0, .iconst 2, 1, 0, 0, []), (69, 0, .invokevirtual 112, 3, 11, 7, [3000]), (72, 0, .ldc2_w 128, 3, 64, 0, [5216]), (75, 0, .lcmp, 1, 0, 0, []), (76, 0, .ifCond .ne 18, 3, 0, 0, []), (79, 0, .aload_n 0, 1, 0, 0, []), (80, 0, .ldc2_w 130, 3, 58, 0, [5217]), (83, 0, .iconst 2, 1, 0, 0, []), (84, 0, .invokevirtual 112, 3, 11, 7, [3000]), (87, 0, .ldc2_w 128, 3, 64, 0, [5216]), (90, 0, .lcmp, 1, 0, 0, []), (91, 0, .ifCond .eq 5, 3, 0, 0, []), (94, 0, .iconst 1, 1, 0, 0, []), (95, 0, .ireturn, 1, 0, 0, []), (96, 0, .aload_n 0, 1, 0, 0, []), (97, 0, .ldc2_w 132, 3, 40, 0, [5218]), (100, 0, .bipush 8, 2, 0, 0, []), (102, 0, .invokevirtual 112, 3, 11, 7, [3000]), (105, 0, .lstore_n 1, 1, 0, 0, []), (106, 0, .aload_n 0, 1, 0, 0, []), (107, 0, .ldc2_w 134, 3, 60, 0, [5219]), (110, 0, .iconst 2, 1, 0, 0, []), (111, 0, .invokevirtual 112, 3, 11, 7, [3000]), (114, 0, .lstore_n 3, 1, 0, 0, []), (115, 0, .lload_n 3, 1, 0, 0, []), (116, 0, .lconst 1, 1, 0, 0, []), (117, 0, .lcmp, 1, 0, 0, []), (118, 0, .ifCond .lt 24, 3, 0, 0, []), (121, 0, .lload_n 3, 1, 0, 0, []), (122, 0, .ldc2_w 136, 3, 24, 0, [5220]), (125, 0, .lcmp, 1, 0, 0, []), (126, 0, .ifCond .gt 16, 3, 0, 0, []), (129, 0, .aload_n 0, 1, 0, 0, []), (130, 0, .lload_n 1, 1, 0, 0, []), (131, 0, .ldc2_w 128, 3, 64, 0, [5216]), (134, 0, .lload_n 3, 1, 0, 0, []), (135, 0, .lmul, 1, 0, 0, []), (136, 0, .invokevirtual 138, 3, 143, 7, [5221]), (139, 0, .ifCond .ne 5, 3, 0, 0, []), (142, 0, .iconst 2, 1, 0, 0, []), (143, 0, .ireturn, 1, 0, 0, []), (144, 0, .aload_n 0, 1, 0, 0, []), (145, 0, .lload_n 3, 1, 0, 0, []), (146, 0, .l2i, 1, 0, 0, []), (147, 0, .putfield 142, 3, 7, 3, [0, 0, 1072]), (150, 0, .aload_n 0, 1, 0, 0, []), (151, 0, .iconst 0, 1, 0, 0, []), (152, 0, .putfield 145, 3, 7, 4, [0, 0, 1074]), (155, 0, .aload_n 0, 1, 0, 0, []), (156, 0, .iconst (-1), 1, 0, 0, []), (157, 0, .putfield 148, 3, 7, 5, [0, 0, 1076]), (160, 0, .iconst 0, 1, 0, 0, []), (161, 0, .istore 5, 2, 0, 0, []), (163, 2, .iload 5, 2, 0, 0, []), (165, 0, .aload_n 0, 1, 0, 0, []), (166, 0, .getfield 142, 3, 7, 3, [0, 0, 1072]), (169, 0, .if_icmp .ge 24, 3, 0, 0, []), (172, 0, .aload_n 0, 1, 0, 0, []), (173, 0, .iload 5, 2, 0, 0, []), (175, 0, .lload_n 1, 1, 0, 0, []), (176, 0, .ldc2_w 128, 3, 64, 0, [5216]), (179, 0, .iload 5, 2, 0, 0, []), (181, 0, .i2l, 1, 0, 0, []), (182, 0, .lmul, 1, 0, 0, []), (183, 0, .ladd, 1, 0, 0, []), (184, 0, .invokevirtual 151, 3, 144, 7, [5225]), (187, 0, .iinc 5 1, 3, 0, 0, []), (190, 0, .goto (-27), 3, 0, 0, []), (193, 0, .aload_n 0, 1, 0, 0, []), (194, 0, .getfield 9, 3, 7, 8, [2, 0, 1082]), (197, 0, .iconst 0, 1, 0, 0, []), (198, 0, .iaload, 1, 0, 0, []), (199, 0, .ifCond .eq 5, 3, 0, 0, []), (202, 0, .iconst 2, 1, 0, 0, []), (203, 0, .ireturn, 1, 0, 0, []), (204, 0, .iconst 0, 1, 0, 0, []), (205, 0, .istore 5, 2, 0, 0, []), (207, 3, .iload 5, 2, 0, 0, []), (209, 0, .aload_n 0, 1, 0, 0, []), (210, 0, .getfield 142, 3, 7, 3, [0, 0, 1072]), (213, 0, .if_icmp .ge 128, 3, 0, 0, []), (216, 0, .aload_n 0, 1, 0, 0, []), (217, 0, .getfield 9, 3, 7, 8, [2, 0, 1082]), (220, 0, .iload 5, 2, 0, 0, []), (222, 0, .iaload, 1, 0, 0, []), (223, 0, .ifCond .eq 50, 3, 0, 0, []), (226, 0, .aload_n 0, 1, 0, 0, []), (227, 0, .getfield 9, 3, 7, 8, [2, 0, 1082]), (230, 0, .iload 5, 2, 0, 0, []), (232, 0, .iaload, 1, 0, 0, []), (233, 0, .bipush 8, 2, 0, 0, []), (235, 0, .if_icmp .eq 38, 3, 0, 0, []), (238, 0, .aload_n 0, 1, 0, 0, []), (239, 0, .aload_n 0, 1, 0, 0, []), (240, 0, .lload_n 1, 1, 0, 0, []), (241, 0, .ldc2_w 128, 3, 64, 0, [5216]), (244, 0, .iload 5, 2, 0, 0, []), (246, 0, .i2l, 1, 0, 0, []), (247, 0, .lmul, 1, 0, 0, []), (248, 0, .ladd, 1, 0, 0, []), (249, 0, .ldc2_w 136, 3, 24, 0, [5220]), (252, 0, .ladd, 1, 0, 0, []), (253, 0, .bipush 8, 2, 0, 0, []), (255, 0, .invokevirtual 112, 3, 11, 7, [3000]), (258, 0, .aload_n 0, 1, 0, 0, []), (259, 0, .getfield 28, 3, 7, 13, [2, 0, 1092]), (262, 0, .iload 5, 2, 0, 0, []), (264, 0, .laload, 1, 0, 0, []), (265, 0, .invokevirtual 138, 3, 143, 7, [5221]), (268, 0, .ifCond .ne 5, 3, 0, 0, []), (271, 0, .iconst 3, 1, 0, 0, []), (272, 0, .ireturn, 1, 0, 0, []), (273, 4, .aload_n 0, 1, 0, 0, []), (274, 0, .iload 5, 2, 0, 0, []), (276, 0, .invokevirtual 155, 3, 23, 7, [3058]), (279, 0, .ifCond .eq 56, 3, 0, 0, []), (282, 0, .aload_n 0, 1, 0, 0, []), (283, 0, .getfield 31, 3, 7, 14, [2, 0, 1095]), (286, 0, .iload 5, 2, 0, 0, []), (288, 0, .laload, 1, 0, 0, []), (289, 0, .lconst 0, 1, 0, 0, []), (290, 0, .lcmp, 1, 0, 0, []), (291, 0, .ifCond .eq 16, 3, 0, 0, []), (294, 0, .aload_n 0, 1, 0, 0, []), (295, 0, .getfield 31, 3, 7, 14, [2, 0, 1095]), (298, 0, .iload 5, 2, 0, 0, []), (300, 0, .laload, 1, 0, 0, []), (301, 0, .invokestatic 158, 3, 145, 0, [5232]), (304, 0, .ifCond .eq 29, 3, 0, 0, []), (307, 5, .aload_n 0, 1, 0, 0, []), (308, 0, .getfield 28, 3, 7, 13, [2, 0, 1092]), (311, 0, .iload 5, 2, 0, 0, []), (313, 0, .laload, 1, 0, 0, []), (314, 0, .lconst 0, 1, 0, 0, []), (315, 0, .lcmp, 1, 0, 0, []), (316, 0, .ifCond .lt 17, 3, 0, 0, []), (319, 0, .aload_n 0, 1, 0, 0, []), (320, 0, .getfield 28, 3, 7, 13, [2, 0, 1092]), (323, 0, .iload 5, 2, 0, 0, []), (325, 0, .laload, 1, 0, 0, []), (326, 0, .ldc2_w 162, 3, 16384, 0, [5236]), (329, 0, .lcmp, 1, 0, 0, []), (330, 0, .ifCond .le 5, 3, 0, 0, []), (333, 0, .iconst 4, 1, 0, 0, []), (334, 0, .ireturn, 1, 0, 0, []), (335, 6, .iinc 5 1, 3, 0, 0, []), (338, 0, .goto (-131), 3, 0, 0, []), (341, 0, .aload_n 0, 1, 0, 0, []), (342, 0, .invokevirtual 164, 3, 147, 7, [5237]), (345, 0, .istore 5, 2, 0, 0, []), (347, 0, .iload 5, 2, 0, 0, []), (349, 0, .ifCond .le 6, 3, 0, 0, []), (352, 0, .iload 5, 2, 0, 0, []), (354, 0, .ireturn, 1, 0, 0, []), (355, 0, .iconst 0, 1, 0, 0, []), (356, 0, .istore 6, 2, 0, 0, []), (358, 7, .iload 6, 2, 0, 0, []), (360, 0, .aload_n 0, 1, 0, 0, []), (361, 0, .getfield 142, 3, 7, 3, [0, 0, 1072]), (364, 0, .if_icmp .ge 30, 3, 0, 0, []), (367, 0, .aload_n 0, 1, 0, 0, []), (368, 0, .iload 6, 2, 0, 0, []), (370, 0, .invokevirtual 167, 3, 39, 7, [3156]), (373, 0, .ifCond .eq 15, 3, 0, 0, []), (376, 0, .aload_n 0, 1, 0, 0, []), (377, 0, .iload 6, 2, 0, 0, []), (379, 0, .invokevirtual 170, 3, 149, 7, [6006]), (382, 0, .ifCond .ne 6, 3, 0, 0, []), (385, 0, .bipush 7, 2, 0, 0, []), (387, 0, .ireturn, 1, 0, 0, []), (388, 8, .iinc 6 1, 3, 0, 0, []), (391, 0, .goto (-33), 3, 0, 0, []), (394, 0, .iconst 0, 1, 0, 0, []), (395, 0, .istore 6, 2, 0, 0, []), (397, 9, .iload 6, 2, 0, 0, []), (399, 0, .aload_n 0, 1, 0, 0, []), (400, 0, .getfield 142, 3, 7, 3, [0, 0, 1072]), (403, 0, .if_icmp .ge 17, 3, 0, 0, []), (406, 0, .aload_n 0, 1, 0, 0, []), (407, 0, .getfield 74, 3, 7, 28, [2, 0, 1123]), (410, 0, .iload 6, 2, 0, 0, []), (412, 0, .iconst 0, 1, 0, 0, []), (413, 0, .bastore, 1, 3, 0, []), (414, 0, .iinc 6 1, 3, 0, 0, []), (417, 0, .goto (-20), 3, 0, 0, []), (420, 0, .iconst 0, 1, 0, 0, []), (421, 0, .istore 6, 2, 0, 0, []), (423, 10, .iload 6, 2, 0, 0, []), (425, 0, .aload_n 0, 1, 0, 0, []), (426, 0, .getfield 142, 3, 7, 3, [0, 0, 1072]), (429, 0, .if_icmp .ge 33, 3, 0, 0, []), (432, 0, .aload_n 0, 1, 0, 0, []), (433, 0, .getfield 9, 3, 7, 8, [2, 0, 1082]), (436, 0, .iload 6, 2, 0, 0, []), (438, 0, .iaload, 1, 0, 0, []), (439, 0, .bipush 17, 2, 0, 0, []), (441, 0, .if_icmp .ne 15, 3, 0, 0, []), (444, 0, .aload_n 0, 1, 0, 0, []), (445, 0, .iload 6, 2, 0, 0, []), (447, 0, .invokevirtual 173, 3, 150, 7, [6016]), (450, 0, .ifCond .ne 6, 3, 0, 0, []), (453, 0, .bipush 9, 2, 0, 0, []), (455, 0, .ireturn, 1, 0, 0, []), (456, 11, .iinc 6 1, 3, 0, 0, []), (459, 0, .goto (-36), 3, 0, 0, []), (462, 0, .iconst 0, 1, 0, 0, []), (463, 0, .ireturn, 1, 0, 0, [])]
def m_Part_read : List aT := [(0, [(0, 2)], []), (163, [(0, 2), (1, 1), (5, 0)], []), (207, [(0, 2), (1, 1), (5, 0)], []), (273, [(0, 2), (1, 1), (5, 0)], []), (307, [(0, 2), (1, 1), (5, 0)], []), (335, [(0, 2), (1, 1), (5, 0)], []), (358, [(0, 2), (6, 0)], []), (388, [(0, 2), (6, 0)], []), (397, [(0, 2), (6, 0)], []), (423, [(0, 2), (6, 0)], []), (456, [(0, 2), (6, 0)], [])]
def B_Part_read_0 (X : Nat → List Int → AMem → Prop) (Q : Int → AMem → Prop) (x0 : Int) (σ : AMem) : Prop :=
  (if ly_k x0 = 27 then (if (am_rd GR σ x0 2) < 64 then
  Q 1 σ
  else
  (if ly_k x0 = 27 then T_Part_number [x0, 0, 7] σ (fun r1 σ2 => (if r1 = 282584257676671 then
    (if ly_k x0 = 27 then T_Part_number [x0, 16, 2] σ2 (fun r3 σ4 => (if r3 = 1 then
      (if ly_k x0 = 27 then T_Part_number [x0, 18, 2] σ4 (fun r5 σ6 => (if r5 = 62 then
        (if ly_k x0 = 27 then T_Part_number [x0, 20, 4] σ6 (fun r7 σ8 => (if r7 = 1 then
          (if ly_k x0 = 27 then T_Part_number [x0, 52, 2] σ8 (fun r9 σ10 => (if r9 = 64 then
            (if ly_k x0 = 27 then T_Part_number [x0, 58, 2] σ10 (fun r11 σ12 => (if r11 = 64 then
              (if ly_k x0 = 27 then T_Part_number [x0, 40, 8] σ12 (fun r13 σ14 => (if ly_k x0 = 27 then T_Part_number [x0, 60, 2] σ14 (fun r15 σ16 => (if r15 < 1 then
                Q 2 σ16
                else
                (if 24 < r15 then
                  Q 2 σ16
                  else
                  (if ly_k x0 = 27 then T_Part_lies [x0, r13, (w64 (64 * r15))] σ16 (fun r17 σ18 => (if r17 = 0 then
                    Q 2 σ18
                    else
                    (if ly_k x0 = 27 then (if ly_fin x0 3 = 0 then am_let (am_upd σ18 x0 3 (w32 r15)) (fun σ19 => (if ly_k x0 = 27 then (if ly_fin x0 4 = 0 then am_let (am_upd σ19 x0 4 0) (fun σ20 => (if ly_k x0 = 27 then (if ly_fin x0 5 = 0 then am_let (am_upd σ20 x0 5 (-1)) (fun σ21 => X 1 [x0, r13, 0] σ21) else False) else False)) else False) else False)) else False) else False))) else False)))) else False)) else False)
              else
              Q 1 σ12)) else False)
            else
            Q 1 σ10)) else False)
          else
          Q 1 σ8)) else False)
        else
        Q 1 σ6)) else False)
      else
      Q 1 σ4)) else False)
    else
    Q 1 σ2)) else False)) else False)
def B_Part_read_1 (X : Nat → List Int → AMem → Prop) (Q : Int → AMem → Prop) (x0 x1 x5 : Int) (σ : AMem) : Prop :=
  (if ly_k x0 = 27 then (if x5 < (am_rd GR σ x0 3) then
  (if ly_k x0 = 27 then T_Part_row [x0, x5, (w64 (x1 + (w64 (64 * x5))))] σ (fun r1 σ2 => am_r32 (x5 + 1) ∧ X 1 [x0, x1, (x5 + 1)] σ2) else False)
  else
  (if ly_k x0 = 27 then (if ly_k (am_rd GR σ x0 8) = 1 then (0 : Int) ≤ 0 ∧ 0 < ly_l (am_rd GR σ x0 8) ∧ (if (σ (am_rd GR σ x0 8) 0) = 0 then
    X 2 [x0, x1, 0] σ
    else
    Q 2 σ) else False) else False)) else False)
def B_Part_read_2 (X : Nat → List Int → AMem → Prop) (Q : Int → AMem → Prop) (x0 x1 x5 : Int) (σ : AMem) : Prop :=
  (if ly_k x0 = 27 then (if x5 < (am_rd GR σ x0 3) then
  (if ly_k x0 = 27 then (if ly_k (am_rd GR σ x0 8) = 1 then 0 ≤ x5 ∧ x5 < ly_l (am_rd GR σ x0 8) ∧ (if (σ (am_rd GR σ x0 8) x5) = 0 then
    X 3 [x0, x1, x5] σ
    else
    (if ly_k x0 = 27 then (if ly_k (am_rd GR σ x0 8) = 1 then 0 ≤ x5 ∧ x5 < ly_l (am_rd GR σ x0 8) ∧ (if (σ (am_rd GR σ x0 8) x5) = 8 then
      X 3 [x0, x1, x5] σ
      else
      (if ly_k x0 = 27 then T_Part_number [x0, (w64 ((w64 (x1 + (w64 (64 * x5)))) + 24)), 8] σ (fun r3 σ4 => (if ly_k x0 = 27 then (if ly_k (am_rd GR σ4 x0 13) = 4 then 0 ≤ x5 ∧ x5 < ly_l (am_rd GR σ4 x0 13) ∧ (if ly_k x0 = 27 then T_Part_lies [x0, r3, (σ4 (am_rd GR σ4 x0 13) x5)] σ4 (fun r5 σ6 => (if r5 = 0 then
        Q 3 σ6
        else
        X 3 [x0, x1, x5] σ6)) else False) else False) else False)) else False)) else False) else False)) else False) else False)
  else
  (if ly_k x0 = 27 then T_Part_symbols [x0] σ (fun r1 σ2 => (if 0 < r1 then
    Q r1 σ2
    else
    X 6 [x0, 0] σ2)) else False)) else False)
def B_Part_read_3 (X : Nat → List Int → AMem → Prop) (Q : Int → AMem → Prop) (x0 x1 x5 : Int) (σ : AMem) : Prop :=
  (if ly_k x0 = 27 then T_Part_isLoaded [x0, x5] σ (fun r1 σ2 => (if r1 = 0 then
  X 5 [x0, x1, x5] σ2
  else
  (if ly_k x0 = 27 then (if ly_k (am_rd GR σ2 x0 14) = 4 then 0 ≤ x5 ∧ x5 < ly_l (am_rd GR σ2 x0 14) ∧ (if (σ2 (am_rd GR σ2 x0 14) x5) = 0 then
    X 4 [x0, x1, x5] σ2
    else
    (if ly_k x0 = 27 then (if ly_k (am_rd GR σ2 x0 14) = 4 then 0 ≤ x5 ∧ x5 < ly_l (am_rd GR σ2 x0 14) ∧ T_Part_isPower [(σ2 (am_rd GR σ2 x0 14) x5)] σ2 (fun r3 σ4 => (if r3 = 0 then
      Q 4 σ4
      else
      X 4 [x0, x1, x5] σ4)) else False) else False)) else False) else False))) else False)
def B_Part_read_4 (X : Nat → List Int → AMem → Prop) (Q : Int → AMem → Prop) (x0 x1 x5 : Int) (σ : AMem) : Prop :=
  (if ly_k x0 = 27 then (if ly_k (am_rd GR σ x0 13) = 4 then 0 ≤ x5 ∧ x5 < ly_l (am_rd GR σ x0 13) ∧ (if (σ (am_rd GR σ x0 13) x5) < 0 then
  Q 4 σ
  else
  (if ly_k x0 = 27 then (if ly_k (am_rd GR σ x0 13) = 4 then 0 ≤ x5 ∧ x5 < ly_l (am_rd GR σ x0 13) ∧ (if 16384 < (σ (am_rd GR σ x0 13) x5) then
    Q 4 σ
    else
    X 5 [x0, x1, x5] σ) else False) else False)) else False) else False)
def B_Part_read_5 (X : Nat → List Int → AMem → Prop) (Q : Int → AMem → Prop) (x0 x1 x5 : Int) (σ : AMem) : Prop :=
  am_r32 (x5 + 1) ∧ X 2 [x0, x1, (x5 + 1)] σ
def B_Part_read_6 (X : Nat → List Int → AMem → Prop) (Q : Int → AMem → Prop) (x0 x6 : Int) (σ : AMem) : Prop :=
  (if ly_k x0 = 27 then (if x6 < (am_rd GR σ x0 3) then
  (if ly_k x0 = 27 then T_Part_isSites [x0, x6] σ (fun r1 σ2 => (if r1 = 0 then
    X 7 [x0, x6] σ2
    else
    (if ly_k x0 = 27 then T_Part_sites [x0, x6] σ2 (fun r3 σ4 => (if r3 = 0 then
      Q 7 σ4
      else
      X 7 [x0, x6] σ4)) else False))) else False)
  else
  X 8 [x0, 0] σ) else False)
def B_Part_read_7 (X : Nat → List Int → AMem → Prop) (Q : Int → AMem → Prop) (x0 x6 : Int) (σ : AMem) : Prop :=
  am_r32 (x6 + 1) ∧ X 6 [x0, (x6 + 1)] σ
def B_Part_read_8 (X : Nat → List Int → AMem → Prop) (Q : Int → AMem → Prop) (x0 x6 : Int) (σ : AMem) : Prop :=
  (if ly_k x0 = 27 then (if x6 < (am_rd GR σ x0 3) then
  (if ly_k x0 = 27 then (if ly_k (am_rd GR σ x0 28) = 3 then 0 ≤ x6 ∧ x6 < ly_l (am_rd GR σ x0 28) ∧ am_let (am_upd σ (am_rd GR σ x0 28) x6 0) (fun σ1 => am_r32 (x6 + 1) ∧ X 8 [x0, (x6 + 1)] σ1) else False) else False)
  else
  X 9 [x0, 0] σ) else False)
def B_Part_read_9 (X : Nat → List Int → AMem → Prop) (Q : Int → AMem → Prop) (x0 x6 : Int) (σ : AMem) : Prop :=
  (if ly_k x0 = 27 then (if x6 < (am_rd GR σ x0 3) then
  (if ly_k x0 = 27 then (if ly_k (am_rd GR σ x0 8) = 1 then 0 ≤ x6 ∧ x6 < ly_l (am_rd GR σ x0 8) ∧ (if (σ (am_rd GR σ x0 8) x6) = 17 then
    (if ly_k x0 = 27 then T_Part_isGroup [x0, x6] σ (fun r1 σ2 => (if r1 = 0 then
      Q 9 σ2
      else
      X 10 [x0, x6] σ2)) else False)
    else
    X 10 [x0, x6] σ) else False) else False)
  else
  Q 0 σ) else False)
def B_Part_read_10 (X : Nat → List Int → AMem → Prop) (Q : Int → AMem → Prop) (x0 x6 : Int) (σ : AMem) : Prop :=
  am_r32 (x6 + 1) ∧ X 9 [x0, (x6 + 1)] σ
def B_Part_read : (Nat → List Int → AMem → Prop) → (Int → AMem → Prop) → Nat → List Int → AMem → Prop := fun X Q j v σ => am_sel [(am_v1 (fun x0 σ => B_Part_read_0 X Q x0 σ)), (am_v3 (fun x0 x1 x5 σ => B_Part_read_1 X Q x0 x1 x5 σ)), (am_v3 (fun x0 x1 x5 σ => B_Part_read_2 X Q x0 x1 x5 σ)), (am_v3 (fun x0 x1 x5 σ => B_Part_read_3 X Q x0 x1 x5 σ)), (am_v3 (fun x0 x1 x5 σ => B_Part_read_4 X Q x0 x1 x5 σ)), (am_v3 (fun x0 x1 x5 σ => B_Part_read_5 X Q x0 x1 x5 σ)), (am_v2 (fun x0 x6 σ => B_Part_read_6 X Q x0 x6 σ)), (am_v2 (fun x0 x6 σ => B_Part_read_7 X Q x0 x6 σ)), (am_v2 (fun x0 x6 σ => B_Part_read_8 X Q x0 x6 σ)), (am_v2 (fun x0 x6 σ => B_Part_read_9 X Q x0 x6 σ)), (am_v2 (fun x0 x6 σ => B_Part_read_10 X Q x0 x6 σ))] j v σ
def T_Part_read : List Int → AMem → (Int → AMem → Prop) → Prop := am_T B_Part_read
abbrev y_Part_read : MethodName := ⟨"LinkHouse$Part", "read", "()I"⟩
def a_Part_read : AC := (151, (y_Part_read, prog_6_method_9_code, 7, (Option.some Jvm.ClassFile.FieldType.int)), [2], 0, false, { frames := 4, cells := 0, slots := 0, locals := 131 }, T_Part_read)
set_option maxRecDepth 100000 in
theorem ms_Part_read : am_MSp a_Part_read := am_ms_v 5209 8 5207 5208 7 rfl (by decide +kernel)
abbrev k_Part_read : List AC := [a_Part_number, a_Part_lies, a_Part_row, a_Part_isLoaded, a_Part_isPower, a_Part_symbols, a_Part_isSites, a_Part_sites, a_Part_isGroup]
set_option maxRecDepth 100000 in
theorem s_Part_read : (am_chkR { frames := 4, cells := 0, slots := 0, locals := 131 } k_Part_read && am_chkN c_Part_read { frames := 4, cells := 0, slots := 0, locals := 131 } && c_Part_read.all (am_chk "LinkHouse$Part" prog_6_method_9_code 7 (Option.some Jvm.ClassFile.FieldType.int) k_Part_read) && c_Part_read.all (am_chkL m_Part_read) && decide (m_Part_read[0]? = some (0, am_argp 0 [2], [])) && decide (am_argn [2] ≤ 7)) = true := by decide +kernel
set_option maxHeartbeats 150000 in
set_option maxRecDepth 100000 in
theorem h_Part_read : ∀ X Q j v σ, B_Part_read X Q j v σ → am_at GR k_Part_read c_Part_read m_Part_read X Q 246 j v σ := fun X Q => am_sel_all (P := fun j v σ => am_at GR k_Part_read c_Part_read m_Part_read X Q 246 j v σ) (⟨(am_v1_of (fun x0 σ h => h)), ⟨(am_v3_of (fun x0 x1 x5 σ h => h)), ⟨(am_v3_of (fun x0 x1 x5 σ h => h)), ⟨(am_v3_of (fun x0 x1 x5 σ h => h)), ⟨(am_v3_of (fun x0 x1 x5 σ h => h)), ⟨(am_v3_of (fun x0 x1 x5 σ h => h)), ⟨(am_v2_of (fun x0 x6 σ h => h)), ⟨(am_v2_of (fun x0 x6 σ h => h)), ⟨(am_v2_of (fun x0 x6 σ h => h)), ⟨(am_v2_of (fun x0 x6 σ h => h)), ⟨(am_v2_of (fun x0 x6 σ h => h)), trivial⟩⟩⟩⟩⟩⟩⟩⟩⟩⟩⟩)
set_option maxRecDepth 100000 in
theorem S_Part_read (l : Launch) (w : AW) : am_S l w GR a_Part_read := am_sound (rt := 0) (cal := k_Part_read) 151 y_Part_read prog_6_method_9_code 7 (Option.some Jvm.ClassFile.FieldType.int) [2] false { frames := 4, cells := 0, slots := 0, locals := 131 } B_Part_read "LinkHouse$Part" c_Part_read m_Part_read 246 ms_Part_read (by decide +kernel) rfl rfl (am_cal (S_Part_number l w) (am_cal (S_Part_lies l w) (am_cal (S_Part_row l w) (am_cal (S_Part_isLoaded l w) (am_cal (S_Part_isPower l w) (am_cal (S_Part_symbols l w) (am_cal (S_Part_isSites l w) (am_cal (S_Part_sites l w) (am_cal (S_Part_isGroup l w) (fun _ h => absurd h List.not_mem_nil)))))))))) s_Part_read h_Part_read
set_option maxRecDepth 100000 in
theorem of_Part_read {Q : Int → AMem → Prop} {x0 : Int} {σ : AMem} (h : ∀ X : Nat → List Int → AMem → Prop, (∀ (x0 : Int) (σ : AMem), B_Part_read_0 X Q x0 σ → X 0 [x0] σ) → (∀ (x0 x1 x5 : Int) (σ : AMem), B_Part_read_1 X Q x0 x1 x5 σ → X 1 [x0, x1, x5] σ) → (∀ (x0 x1 x5 : Int) (σ : AMem), B_Part_read_2 X Q x0 x1 x5 σ → X 2 [x0, x1, x5] σ) → (∀ (x0 x1 x5 : Int) (σ : AMem), B_Part_read_3 X Q x0 x1 x5 σ → X 3 [x0, x1, x5] σ) → (∀ (x0 x1 x5 : Int) (σ : AMem), B_Part_read_4 X Q x0 x1 x5 σ → X 4 [x0, x1, x5] σ) → (∀ (x0 x1 x5 : Int) (σ : AMem), B_Part_read_5 X Q x0 x1 x5 σ → X 5 [x0, x1, x5] σ) → (∀ (x0 x6 : Int) (σ : AMem), B_Part_read_6 X Q x0 x6 σ → X 6 [x0, x6] σ) → (∀ (x0 x6 : Int) (σ : AMem), B_Part_read_7 X Q x0 x6 σ → X 7 [x0, x6] σ) → (∀ (x0 x6 : Int) (σ : AMem), B_Part_read_8 X Q x0 x6 σ → X 8 [x0, x6] σ) → (∀ (x0 x6 : Int) (σ : AMem), B_Part_read_9 X Q x0 x6 σ → X 9 [x0, x6] σ) → (∀ (x0 x6 : Int) (σ : AMem), B_Part_read_10 X Q x0 x6 σ → X 10 [x0, x6] σ) → X 0 [x0] σ) : T_Part_read [x0] σ Q := fun X hX => h X (fun x0 σ h => hX 0 [x0] σ h) (fun x0 x1 x5 σ h => hX 1 [x0, x1, x5] σ h) (fun x0 x1 x5 σ h => hX 2 [x0, x1, x5] σ h) (fun x0 x1 x5 σ h => hX 3 [x0, x1, x5] σ h) (fun x0 x1 x5 σ h => hX 4 [x0, x1, x5] σ h) (fun x0 x1 x5 σ h => hX 5 [x0, x1, x5] σ h) (fun x0 x6 σ h => hX 6 [x0, x6] σ h) (fun x0 x6 σ h => hX 7 [x0, x6] σ h) (fun x0 x6 σ h => hX 8 [x0, x6] σ h) (fun x0 x6 σ h => hX 9 [x0, x6] σ h) (fun x0 x6 σ h => hX 10 [x0, x6] σ h)
def c_Container_whole : List aE := [(0, 1, .aload_n 0, 1, 0, 0, []), (1, 0, .iconst 1, 1, 0, 0, []), (2, 0, .putfield 34, 3, 6, 3, [0, 0, 1198]), (5, 0, .aload_n 0, 1, 0, 0, []), (6, 0, .iconst 0, 1, 0, 0, []), (7, 0, .aload_n 0, 1, 0, 0, []), (8, 0, .getfield 24, 3, 6, 2, [0, 0, 1197]), (11, 0, .invokevirtual 59, 3, 142, 6, [5202]), (14, 0, .aload_n 0, 1, 0, 0, []), (15, 0, .getfield 17, 3, 6, 1, [2, 0, 1195]), (18, 0, .iconst 0, 1, 0, 0, []), (19, 0, .aaload, 1, 5, 0, []), (20, 0, .invokevirtual 56, 3, 151, 7, [5206]), (23, 0, .ireturn, 1, 0, 0, [])]
def m_Container_whole : List aT := [(0, [(0, 2)], [])]
def B_Container_whole_0 (X : Nat → List Int → AMem → Prop) (Q : Int → AMem → Prop) (x0 : Int) (σ : AMem) : Prop :=
  (if ly_k x0 = 26 then (if ly_fin x0 3 = 0 then am_let (am_upd σ x0 3 1) (fun σ1 => (if ly_k x0 = 26 then (if ly_k x0 = 26 then T_Container_seat [x0, 0, (am_rd GR σ1 x0 2)] σ1 (fun r2 σ3 => (if ly_k x0 = 26 then (if ly_k (am_rd GR σ3 x0 1) = 5 then (0 : Int) ≤ 0 ∧ 0 < ly_l (am_rd GR σ3 x0 1) ∧ (if ly_k (σ3 (am_rd GR σ3 x0 1) 0) = 27 then T_Part_read [(σ3 (am_rd GR σ3 x0 1) 0)] σ3 (fun r4 σ5 => Q r4 σ5) else False) else False) else False)) else False) else False)) else False) else False)
def B_Container_whole : (Nat → List Int → AMem → Prop) → (Int → AMem → Prop) → Nat → List Int → AMem → Prop := fun X Q j v σ => am_sel [(am_v1 (fun x0 σ => B_Container_whole_0 X Q x0 σ))] j v σ
def T_Container_whole : List Int → AMem → (Int → AMem → Prop) → Prop := am_T B_Container_whole
abbrev y_Container_whole : MethodName := ⟨"LinkHouse$Container", "whole", "()I"⟩
def a_Container_whole : AC := (152, (y_Container_whole, prog_2_method_3_code, 1, (Option.some Jvm.ClassFile.FieldType.int)), [2], 0, false, { frames := 5, cells := 0, slots := 0, locals := 165 }, T_Container_whole)
set_option maxRecDepth 100000 in
theorem ms_Container_whole : am_MSp a_Container_whole := am_ms_v 5201 7 5200 104011 6 rfl (by decide +kernel)
abbrev k_Container_whole : List AC := [a_Container_seat, a_Part_read]
set_option maxRecDepth 100000 in
theorem s_Container_whole : (am_chkR { frames := 5, cells := 0, slots := 0, locals := 165 } k_Container_whole && am_chkN c_Container_whole { frames := 5, cells := 0, slots := 0, locals := 165 } && c_Container_whole.all (am_chk "LinkHouse$Container" prog_2_method_3_code 1 (Option.some Jvm.ClassFile.FieldType.int) k_Container_whole) && c_Container_whole.all (am_chkL m_Container_whole) && decide (m_Container_whole[0]? = some (0, am_argp 0 [2], [])) && decide (am_argn [2] ≤ 1)) = true := by decide +kernel
set_option maxHeartbeats 150000 in
set_option maxRecDepth 100000 in
theorem h_Container_whole : ∀ X Q j v σ, B_Container_whole X Q j v σ → am_at GR k_Container_whole c_Container_whole m_Container_whole X Q 20 j v σ := fun X Q => am_sel_all (P := fun j v σ => am_at GR k_Container_whole c_Container_whole m_Container_whole X Q 20 j v σ) (⟨(am_v1_of (fun x0 σ h => h)), trivial⟩)
set_option maxRecDepth 100000 in
theorem S_Container_whole (l : Launch) (w : AW) : am_S l w GR a_Container_whole := am_sound (rt := 0) (cal := k_Container_whole) 152 y_Container_whole prog_2_method_3_code 1 (Option.some Jvm.ClassFile.FieldType.int) [2] false { frames := 5, cells := 0, slots := 0, locals := 165 } B_Container_whole "LinkHouse$Container" c_Container_whole m_Container_whole 20 ms_Container_whole (by decide +kernel) rfl rfl (am_cal (S_Container_seat l w) (am_cal (S_Part_read l w) (fun _ h => absurd h List.not_mem_nil))) s_Container_whole h_Container_whole
set_option maxRecDepth 100000 in
theorem of_Container_whole {Q : Int → AMem → Prop} {x0 : Int} {σ : AMem} (h : ∀ X : Nat → List Int → AMem → Prop, (∀ (x0 : Int) (σ : AMem), B_Container_whole_0 X Q x0 σ → X 0 [x0] σ) → X 0 [x0] σ) : T_Container_whole [x0] σ Q := fun X hX => h X (fun x0 σ h => hX 0 [x0] σ h)
set_option maxRecDepth 100000 in
theorem iff_Container_whole {Q : Int → AMem → Prop} {X : Nat → List Int → AMem → Prop} {x0 : Int} {σ : AMem} : T_Container_whole [x0] σ Q ↔ B_Container_whole_0 X Q x0 σ := ⟨fun h => h (fun j v σ => B_Container_whole X Q j v σ) (fun _ _ _ q => q), fun h _ hX => hX 0 _ _ h⟩
def c_Container_member : List aE := [(0, 1, .aload_n 0, 1, 0, 0, []), (1, 0, .getfield 24, 3, 6, 2, [0, 0, 1197]), (4, 0, .iload_n 1, 1, 0, 0, []), (5, 0, .isub, 1, 0, 0, []), (6, 0, .bipush 60, 2, 0, 0, []), (8, 0, .if_icmp .lt 40, 3, 0, 0, []), (11, 0, .aload_n 0, 1, 0, 0, []), (12, 0, .getfield 34, 3, 6, 3, [0, 0, 1198]), (15, 0, .bipush 8, 2, 0, 0, []), (17, 0, .if_icmp .eq 31, 3, 0, 0, []), (20, 0, .aload_n 0, 1, 0, 0, []), (21, 0, .getfield 9, 3, 6, 0, [2, 0, 1194]), (24, 0, .iload_n 1, 1, 0, 0, []), (25, 0, .bipush 58, 2, 0, 0, []), (27, 0, .iadd, 1, 0, 0, []), (28, 0, .baload, 1, 2, 0, []), (29, 0, .bipush 96, 2, 0, 0, []), (31, 0, .if_icmp .ne 17, 3, 0, 0, []), (34, 0, .aload_n 0, 1, 0, 0, []), (35, 0, .getfield 9, 3, 6, 0, [2, 0, 1194]), (38, 0, .iload_n 1, 1, 0, 0, []), (39, 0, .bipush 59, 2, 0, 0, []), (41, 0, .iadd, 1, 0, 0, []), (42, 0, .baload, 1, 2, 0, []), (43, 0, .bipush 10, 2, 0, 0, []), (45, 0, .if_icmp .eq 5, 3, 0, 0, []), (48, 0, .iconst (-1), 1, 0, 0, []), (49, 0, .ireturn, 1, 0, 0, []), (50, 0, .lconst 0, 1, 0, 0, []), (51, 0, .lstore_n 2, 1, 0, 0, []), (52, 0, .iconst 0, 1, 0, 0, []), (53, 0, .istore 4, 2, 0, 0, []), (55, 2, .iload 4, 2, 0, 0, []), (57, 0, .bipush 10, 2, 0, 0, []), (59, 0, .if_icmp .ge 67, 3, 0, 0, []), (62, 0, .aload_n 0, 1, 0, 0, []), (63, 0, .getfield 9, 3, 6, 0, [2, 0, 1194]), (66, 0, .iload_n 1, 1, 0, 0, []), (67, 0, .bipush 48, 2, 0, 0, []), (69, 0, .iadd, 1, 0, 0, []), (70, 0, .iload 4, 2, 0, 0, []), (72, 0, .iadd, 1, 0, 0, []), (73, 0, .baload, 1, 2, 0, []), (74, 0, .bipush 48, 2, 0, 0, []), (76, 0, .if_icmp .lt 50, 3, 0, 0, []), (79, 0, .aload_n 0, 1, 0, 0, []), (80, 0, .getfield 9, 3, 6, 0, [2, 0, 1194]), (83, 0, .iload_n 1, 1, 0, 0, []), (84, 0, .bipush 48, 2, 0, 0, []), (86, 0, .iadd, 1, 0, 0, []), (87, 0, .iload 4, 2, 0, 0, []), (89, 0, .iadd, 1, 0, 0, []), (90, 0, .baload, 1, 2, 0, []), (91, 0, .bipush 57, 2, 0, 0, []), (93, 0, .if_icmp .gt 33, 3, 0, 0, []), (96, 0, .ldc2_w 74, 3, 10, 0, [6024]), (99, 0, .lload_n 2, 1, 0, 0, []), (100, 0, .lmul, 1, 0, 0, []), (101, 0, .aload_n 0, 1, 0, 0, []), (102, 0, .getfield 9, 3, 6, 0, [2, 0, 1194]), (105, 0, .iload_n 1, 1, 0, 0, []), (106, 0, .bipush 48, 2, 0, 0, []), (108, 0, .iadd, 1, 0, 0, []), (109, 0, .iload 4, 2, 0, 0, []), (111, 0, .iinc 4 1, 3, 0, 0, []), (114, 0, .iadd, 1, 0, 0, []), (115, 0, .baload, 1, 2, 0, []), (116, 0, .i2l, 1, 0, 0, []), (117, 0, .ladd, 1, 0, 0, []), (118, 0, .ldc2_w 76, 3, 48, 0, [6025]), (121, 0, .lsub, 1, 0, 0, []), (122, 0, .lstore_n 2, 1, 0, 0, []), (123, 0, .goto (-68), 3, 0, 0, []), (126, 3, .iload 4, 2, 0, 0, []), (128, 0, .istore 5, 2, 0, 0, []), (130, 4, .iload 5, 2, 0, 0, []), (132, 0, .bipush 10, 2, 0, 0, []), (134, 0, .if_icmp .ge 28, 3, 0, 0, []), (137, 0, .aload_n 0, 1, 0, 0, []), (138, 0, .getfield 9, 3, 6, 0, [2, 0, 1194]), (141, 0, .iload_n 1, 1, 0, 0, []), (142, 0, .bipush 48, 2, 0, 0, []), (144, 0, .iadd, 1, 0, 0, []), (145, 0, .iload 5, 2, 0, 0, []), (147, 0, .iadd, 1, 0, 0, []), (148, 0, .baload, 1, 2, 0, []), (149, 0, .bipush 32, 2, 0, 0, []), (151, 0, .if_icmp .eq 5, 3, 0, 0, []), (154, 0, .iconst (-1), 1, 0, 0, []), (155, 0, .ireturn, 1, 0, 0, []), (156, 0, .iinc 5 1, 3, 0, 0, []), (159, 0, .goto (-29), 3, 0, 0, []), (162, 0, .iload 4, 2, 0, 0, []), (164, 0, .ifCond .eq 18, 3, 0, 0, []), (167, 0, .lload_n 2, 1, 0, 0, []), (168, 0, .aload_n 0, 1, 0, 0, []), (169, 0, .getfield 24, 3, 6, 2, [0, 0, 1197]), (172, 0, .iload_n 1, 1, 0, 0, []), (173, 0, .isub, 1, 0, 0, []), (174, 0, .bipush 60, 2, 0, 0, []), (176, 0, .isub, 1, 0, 0, []), (177, 0, .i2l, 1, 0, 0, []), (178, 0, .lcmp, 1, 0, 0, []), (179, 0, .ifCond .le 5, 3, 0, 0, []), (182, 0, .iconst (-1), 1, 0, 0, []), (183, 0, .ireturn, 1, 0, 0, []), (184, 0, .aload_n 0, 1, 0, 0, []), (185, 0, .dup, 1, 0, 0, []), (186, 0, .getfield 34, 3, 6, 3, [0, 0, 1198]), (189, 0, .iconst 1, 1, 0, 0, []), (190, 0, .iadd, 1, 0, 0, []), (191, 0, .putfield 34, 3, 6, 3, [0, 0, 1198]), (194, 0, .aload_n 0, 1, 0, 0, []), (195, 0, .iload_n 1, 1, 0, 0, []), (196, 0, .bipush 60, 2, 0, 0, []), (198, 0, .iadd, 1, 0, 0, []), (199, 0, .lload_n 2, 1, 0, 0, []), (200, 0, .l2i, 1, 0, 0, []), (201, 0, .invokevirtual 59, 3, 142, 6, [5202]), (204, 0, .aload_n 0, 1, 0, 0, []), (205, 0, .getfield 17, 3, 6, 1, [2, 0, 1195]), (208, 0, .aload_n 0, 1, 0, 0, []), (209, 0, .getfield 34, 3, 6, 3, [0, 0, 1198]), (212, 0, .iconst 1, 1, 0, 0, []), (213, 0, .isub, 1, 0, 0, []), (214, 0, .aaload, 1, 5, 0, []), (215, 0, .aload_n 0, 1, 0, 0, []), (216, 0, .getfield 9, 3, 6, 0, [2, 0, 1194]), (219, 0, .iload_n 1, 1, 0, 0, []), (220, 0, .baload, 1, 2, 0, []), (221, 0, .bipush 47, 2, 0, 0, []), (223, 0, .if_icmp .ne 7, 3, 0, 0, []), (226, 0, .iconst 1, 1, 0, 0, []), (227, 0, .goto 4, 3, 0, 0, []), (230, 0, .iconst 0, 1, 0, 0, []), (231, 5, .putfield 53, 3, 7, 7, [0, 1, 1080]), (234, 0, .iload_n 1, 1, 0, 0, []), (235, 0, .bipush 60, 2, 0, 0, []), (237, 0, .iadd, 1, 0, 0, []), (238, 0, .lload_n 2, 1, 0, 0, []), (239, 0, .l2i, 1, 0, 0, []), (240, 0, .iadd, 1, 0, 0, []), (241, 0, .istore 5, 2, 0, 0, []), (243, 0, .lload_n 2, 1, 0, 0, []), (244, 0, .ldc2_w 78, 3, 2, 0, [6026]), (247, 0, .lrem, 1, 0, 0, []), (248, 0, .lconst 0, 1, 0, 0, []), (249, 0, .lcmp, 1, 0, 0, []), (250, 0, .ifCond .ne 6, 3, 0, 0, []), (253, 0, .iload 5, 2, 0, 0, []), (255, 0, .ireturn, 1, 0, 0, []), (256, 0, .iload 5, 2, 0, 0, []), (258, 0, .aload_n 0, 1, 0, 0, []), (259, 0, .getfield 24, 3, 6, 2, [0, 0, 1197]), (262, 0, .if_icmp .ge 22, 3, 0, 0, []), (265, 0, .aload_n 0, 1, 0, 0, []), (266, 0, .getfield 9, 3, 6, 0, [2, 0, 1194]), (269, 0, .iload 5, 2, 0, 0, []), (271, 0, .baload, 1, 2, 0, []), (272, 0, .bipush 10, 2, 0, 0, []), (274, 0, .if_icmp .ne 10, 3, 0, 0, []), (277, 0, .iload 5, 2, 0, 0, []), (279, 0, .iconst 1, 1, 0, 0, []), (280, 0, .iadd, 1, 0, 0, []), (281, 0, .goto 4, 3, 0, 0, []), (284, 0, .iconst (-1), 1, 0, 0, []), (285, 0, .ireturn, 1, 0, 0, [])]
def m_Container_member : List aT := [(0, [(0, 2), (1, 0)], []), (55, [(0, 2), (1, 0), (2, 1), (4, 0)], []), (126, [(0, 2), (1, 0), (2, 1), (4, 0)], []), (130, [(0, 2), (1, 0), (2, 1), (4, 0), (5, 0)], []), (231, [(0, 2), (1, 0), (2, 1)], [0, 2])]
def B_Container_member_0 (X : Nat → List Int → AMem → Prop) (Q : Int → AMem → Prop) (x0 x1 : Int) (σ : AMem) : Prop :=
  (if ly_k x0 = 26 then am_r32 ((am_rd GR σ x0 2) - x1) ∧ (if ((am_rd GR σ x0 2) - x1) < 60 then
  Q (-1) σ
  else
  (if ly_k x0 = 26 then (if (am_rd GR σ x0 3) = 8 then
    Q (-1) σ
    else
    (if ly_k x0 = 26 then am_r32 (x1 + 58) ∧ (if ly_k (am_rd GR σ x0 0) = 2 then 0 ≤ (x1 + 58) ∧ (x1 + 58) < ly_l (am_rd GR σ x0 0) ∧ (if (σ (am_rd GR σ x0 0) (x1 + 58)) = 96 then
      (if ly_k x0 = 26 then am_r32 (x1 + 59) ∧ (if ly_k (am_rd GR σ x0 0) = 2 then 0 ≤ (x1 + 59) ∧ (x1 + 59) < ly_l (am_rd GR σ x0 0) ∧ (if (σ (am_rd GR σ x0 0) (x1 + 59)) = 10 then
        X 1 [x0, x1, 0, 0] σ
        else
        Q (-1) σ) else False) else False)
      else
      Q (-1) σ) else False) else False)) else False)) else False)
def B_Container_member_1 (X : Nat → List Int → AMem → Prop) (Q : Int → AMem → Prop) (x0 x1 x2 x4 : Int) (σ : AMem) : Prop :=
  (if x4 < 10 then
  (if ly_k x0 = 26 then am_r32 (x1 + 48) ∧ am_r32 ((x1 + 48) + x4) ∧ (if ly_k (am_rd GR σ x0 0) = 2 then 0 ≤ ((x1 + 48) + x4) ∧ ((x1 + 48) + x4) < ly_l (am_rd GR σ x0 0) ∧ (if (σ (am_rd GR σ x0 0) ((x1 + 48) + x4)) < 48 then
    X 2 [x0, x1, x2, x4] σ
    else
    (if ly_k x0 = 26 then am_r32 (x1 + 48) ∧ am_r32 ((x1 + 48) + x4) ∧ (if ly_k (am_rd GR σ x0 0) = 2 then 0 ≤ ((x1 + 48) + x4) ∧ ((x1 + 48) + x4) < ly_l (am_rd GR σ x0 0) ∧ (if 57 < (σ (am_rd GR σ x0 0) ((x1 + 48) + x4)) then
      X 2 [x0, x1, x2, x4] σ
      else
      (if ly_k x0 = 26 then am_r32 (x1 + 48) ∧ am_r32 (x4 + 1) ∧ am_r32 ((x1 + 48) + x4) ∧ (if ly_k (am_rd GR σ x0 0) = 2 then 0 ≤ ((x1 + 48) + x4) ∧ ((x1 + 48) + x4) < ly_l (am_rd GR σ x0 0) ∧ am_let (w64 ((w64 ((w64 (10 * x2)) + (σ (am_rd GR σ x0 0) ((x1 + 48) + x4)))) - 48)) (fun y1 => X 1 [x0, x1, y1, (x4 + 1)] σ) else False) else False)) else False) else False)) else False) else False)
  else
  X 2 [x0, x1, x2, x4] σ)
def B_Container_member_2 (X : Nat → List Int → AMem → Prop) (Q : Int → AMem → Prop) (x0 x1 x2 x4 : Int) (σ : AMem) : Prop :=
  X 3 [x0, x1, x2, x4, x4] σ
def B_Container_member_3 (X : Nat → List Int → AMem → Prop) (Q : Int → AMem → Prop) (x0 x1 x2 x4 x5 : Int) (σ : AMem) : Prop :=
  (if x5 < 10 then
  (if ly_k x0 = 26 then am_r32 (x1 + 48) ∧ am_r32 ((x1 + 48) + x5) ∧ (if ly_k (am_rd GR σ x0 0) = 2 then 0 ≤ ((x1 + 48) + x5) ∧ ((x1 + 48) + x5) < ly_l (am_rd GR σ x0 0) ∧ (if (σ (am_rd GR σ x0 0) ((x1 + 48) + x5)) = 32 then
    am_r32 (x5 + 1) ∧ X 3 [x0, x1, x2, x4, (x5 + 1)] σ
    else
    Q (-1) σ) else False) else False)
  else
  (if x4 = 0 then
    Q (-1) σ
    else
    (if ly_k x0 = 26 then am_r32 ((am_rd GR σ x0 2) - x1) ∧ am_r32 (((am_rd GR σ x0 2) - x1) - 60) ∧ (if (((am_rd GR σ x0 2) - x1) - 60) < x2 then
      Q (-1) σ
      else
      (if ly_k x0 = 26 then am_r32 ((am_rd GR σ x0 3) + 1) ∧ (if ly_k x0 = 26 then (if ly_fin x0 3 = 0 then am_let (am_upd σ x0 3 ((am_rd GR σ x0 3) + 1)) (fun σ1 => am_r32 (x1 + 60) ∧ (if ly_k x0 = 26 then T_Container_seat [x0, (x1 + 60), (w32 x2)] σ1 (fun r2 σ3 => (if ly_k x0 = 26 then (if ly_k x0 = 26 then am_r32 ((am_rd GR σ3 x0 3) - 1) ∧ (if ly_k (am_rd GR σ3 x0 1) = 5 then 0 ≤ ((am_rd GR σ3 x0 3) - 1) ∧ ((am_rd GR σ3 x0 3) - 1) < ly_l (am_rd GR σ3 x0 1) ∧ (if ly_k x0 = 26 then (if ly_k (am_rd GR σ3 x0 0) = 2 then 0 ≤ x1 ∧ x1 < ly_l (am_rd GR σ3 x0 0) ∧ (if (σ3 (am_rd GR σ3 x0 0) x1) = 47 then
        X 4 [x0, x1, x2, 1, (σ3 (am_rd GR σ3 x0 1) ((am_rd GR σ3 x0 3) - 1))] σ3
        else
        X 4 [x0, x1, x2, 0, (σ3 (am_rd GR σ3 x0 1) ((am_rd GR σ3 x0 3) - 1))] σ3) else False) else False) else False) else False) else False)) else False)) else False) else False) else False)) else False)))
def B_Container_member_4 (X : Nat → List Int → AMem → Prop) (Q : Int → AMem → Prop) (x0 x1 x2 s0 s1 : Int) (σ : AMem) : Prop :=
  (if ly_k s1 = 27 then (if ly_fin s1 7 = 0 then (if s0 = 0 ∨ s0 = 1 then am_let (am_upd σ s1 7 s0) (fun σ1 => am_r32 (x1 + 60) ∧ am_r32 ((x1 + 60) + (w32 x2)) ∧ (0 : Int) < 2 ∧ (if (x2.tmod 2) = 0 then
  Q ((x1 + 60) + (w32 x2)) σ1
  else
  (if ly_k x0 = 26 then (if ((x1 + 60) + (w32 x2)) < (am_rd GR σ1 x0 2) then
    (if ly_k x0 = 26 then (if ly_k (am_rd GR σ1 x0 0) = 2 then 0 ≤ ((x1 + 60) + (w32 x2)) ∧ ((x1 + 60) + (w32 x2)) < ly_l (am_rd GR σ1 x0 0) ∧ (if (σ1 (am_rd GR σ1 x0 0) ((x1 + 60) + (w32 x2))) = 10 then
      am_r32 (((x1 + 60) + (w32 x2)) + 1) ∧ Q (((x1 + 60) + (w32 x2)) + 1) σ1
      else
      Q (-1) σ1) else False) else False)
    else
    Q (-1) σ1) else False))) else False) else False) else False)
def B_Container_member : (Nat → List Int → AMem → Prop) → (Int → AMem → Prop) → Nat → List Int → AMem → Prop := fun X Q j v σ => am_sel [(am_v2 (fun x0 x1 σ => B_Container_member_0 X Q x0 x1 σ)), (am_v4 (fun x0 x1 x2 x4 σ => B_Container_member_1 X Q x0 x1 x2 x4 σ)), (am_v4 (fun x0 x1 x2 x4 σ => B_Container_member_2 X Q x0 x1 x2 x4 σ)), (am_v5 (fun x0 x1 x2 x4 x5 σ => B_Container_member_3 X Q x0 x1 x2 x4 x5 σ)), (am_v5 (fun x0 x1 x2 s0 s1 σ => B_Container_member_4 X Q x0 x1 x2 s0 s1 σ))] j v σ
def T_Container_member : List Int → AMem → (Int → AMem → Prop) → Prop := am_T B_Container_member
abbrev y_Container_member : MethodName := ⟨"LinkHouse$Container", "member", "(I)I"⟩
def a_Container_member : AC := (153, (y_Container_member, prog_2_method_7_code, 6, (Option.some Jvm.ClassFile.FieldType.int)), [2, 0], 0, false, { frames := 1, cells := 0, slots := 0, locals := 31 }, T_Container_member)
set_option maxRecDepth 100000 in
theorem ms_Container_member : am_MSp a_Container_member := am_ms_v 6023 7 6022 105004 6 rfl (by decide +kernel)
abbrev k_Container_member : List AC := [a_Container_seat]
set_option maxRecDepth 100000 in
theorem s_Container_member : (am_chkR { frames := 1, cells := 0, slots := 0, locals := 31 } k_Container_member && am_chkN c_Container_member { frames := 1, cells := 0, slots := 0, locals := 31 } && c_Container_member.all (am_chk "LinkHouse$Container" prog_2_method_7_code 6 (Option.some Jvm.ClassFile.FieldType.int) k_Container_member) && c_Container_member.all (am_chkL m_Container_member) && decide (m_Container_member[0]? = some (0, am_argp 0 [2, 0], [])) && decide (am_argn [2, 0] ≤ 6)) = true := by decide +kernel
set_option maxHeartbeats 150000 in
set_option maxRecDepth 100000 in
theorem h_Container_member : ∀ X Q j v σ, B_Container_member X Q j v σ → am_at GR k_Container_member c_Container_member m_Container_member X Q 172 j v σ := fun X Q => am_sel_all (P := fun j v σ => am_at GR k_Container_member c_Container_member m_Container_member X Q 172 j v σ) (⟨(am_v2_of (fun x0 x1 σ h => h)), ⟨(am_v4_of (fun x0 x1 x2 x4 σ h => h)), ⟨(am_v4_of (fun x0 x1 x2 x4 σ h => h)), ⟨(am_v5_of (fun x0 x1 x2 x4 x5 σ h => h)), ⟨(am_v5_of (fun x0 x1 x2 s0 s1 σ h => h)), trivial⟩⟩⟩⟩⟩)
set_option maxRecDepth 100000 in
theorem S_Container_member (l : Launch) (w : AW) : am_S l w GR a_Container_member := am_sound (rt := 0) (cal := k_Container_member) 153 y_Container_member prog_2_method_7_code 6 (Option.some Jvm.ClassFile.FieldType.int) [2, 0] false { frames := 1, cells := 0, slots := 0, locals := 31 } B_Container_member "LinkHouse$Container" c_Container_member m_Container_member 172 ms_Container_member (by decide +kernel) rfl rfl (am_cal (S_Container_seat l w) (fun _ h => absurd h List.not_mem_nil)) s_Container_member h_Container_member
set_option maxRecDepth 100000 in
theorem of_Container_member {Q : Int → AMem → Prop} {x0 x1 : Int} {σ : AMem} (h : ∀ X : Nat → List Int → AMem → Prop, (∀ (x0 x1 : Int) (σ : AMem), B_Container_member_0 X Q x0 x1 σ → X 0 [x0, x1] σ) → (∀ (x0 x1 x2 x4 : Int) (σ : AMem), B_Container_member_1 X Q x0 x1 x2 x4 σ → X 1 [x0, x1, x2, x4] σ) → (∀ (x0 x1 x2 x4 : Int) (σ : AMem), B_Container_member_2 X Q x0 x1 x2 x4 σ → X 2 [x0, x1, x2, x4] σ) → (∀ (x0 x1 x2 x4 x5 : Int) (σ : AMem), B_Container_member_3 X Q x0 x1 x2 x4 x5 σ → X 3 [x0, x1, x2, x4, x5] σ) → (∀ (x0 x1 x2 s0 s1 : Int) (σ : AMem), B_Container_member_4 X Q x0 x1 x2 s0 s1 σ → X 4 [x0, x1, x2, s0, s1] σ) → X 0 [x0, x1] σ) : T_Container_member [x0, x1] σ Q := fun X hX => h X (fun x0 x1 σ h => hX 0 [x0, x1] σ h) (fun x0 x1 x2 x4 σ h => hX 1 [x0, x1, x2, x4] σ h) (fun x0 x1 x2 x4 σ h => hX 2 [x0, x1, x2, x4] σ h) (fun x0 x1 x2 x4 x5 σ h => hX 3 [x0, x1, x2, x4, x5] σ h) (fun x0 x1 x2 s0 s1 σ h => hX 4 [x0, x1, x2, s0, s1] σ h)
def c_Container_read : List aE := [(0, 1, .aload_n 0, 1, 0, 0, []), (1, 0, .iload_n 2, 1, 0, 0, []), (2, 0, .putfield 24, 3, 6, 2, [0, 0, 1197]), (5, 0, .aload_n 1, 1, 0, 0, []), (6, 0, .iconst 0, 1, 0, 0, []), (7, 0, .aload_n 0, 1, 0, 0, []), (8, 0, .getfield 9, 3, 6, 0, [2, 0, 1194]), (11, 0, .iconst 0, 1, 0, 0, []), (12, 0, .iload_n 2, 1, 0, 0, []), (13, 0, .invokestatic 28, 3, 9999, 0, [5190]), (16, 0, .aload_n 0, 1, 0, 0, []), (17, 0, .iconst 0, 1, 0, 0, []), (18, 0, .putfield 34, 3, 6, 3, [0, 0, 1198]), (21, 0, .aload_n 0, 1, 0, 0, []), (22, 0, .iload_n 2, 1, 0, 0, []), (23, 0, .bipush 8, 2, 0, 0, []), (25, 0, .if_icmp .lt 14, 3, 0, 0, []), (28, 0, .aload_n 0, 1, 0, 0, []), (29, 0, .invokevirtual 37, 3, 141, 6, [5191]), (32, 0, .ifCond .eq 7, 3, 0, 0, []), (35, 0, .iconst 1, 1, 0, 0, []), (36, 0, .goto 4, 3, 0, 0, []), (39, 2, .iconst 0, 1, 0, 0, []), (40, 3, .putfield 41, 3, 6, 4, [0, 1, 1200]), (43, 0, .aload_n 0, 1, 0, 0, []), (44, 0, .getfield 41, 3, 6, 4, [0, 1, 1200]), (47, 0, .ifCond .ne 8, 3, 0, 0, []), (50, 0, .aload_n 0, 1, 0, 0, []), (51, 0, .invokevirtual 45, 3, 152, 6, [5198]), (54, 0, .ireturn, 1, 0, 0, []), (55, 0, .bipush 8, 2, 0, 0, []), (57, 0, .istore_n 3, 1, 0, 0, []), (58, 4, .iload_n 3, 1, 0, 0, []), (59, 0, .aload_n 0, 1, 0, 0, []), (60, 0, .getfield 24, 3, 6, 2, [0, 0, 1197]), (63, 0, .if_icmp .ge 24, 3, 0, 0, []), (66, 0, .aload_n 0, 1, 0, 0, []), (67, 0, .iload_n 3, 1, 0, 0, []), (68, 0, .invokevirtual 49, 3, 153, 6, [6020]), (71, 0, .istore 4, 2, 0, 0, []), (73, 0, .iload 4, 2, 0, 0, []), (75, 0, .ifCond .ge 6, 3, 0, 0, []), (78, 0, .bipush 8, 2, 0, 0, []), (80, 0, .ireturn, 1, 0, 0, []), (81, 0, .iload 4, 2, 0, 0, []), (83, 0, .istore_n 3, 1, 0, 0, []), (84, 0, .goto (-26), 3, 0, 0, []), (87, 0, .iconst 0, 1, 0, 0, []), (88, 0, .istore 4, 2, 0, 0, []), (90, 5, .iload 4, 2, 0, 0, []), (92, 0, .aload_n 0, 1, 0, 0, []), (93, 0, .getfield 34, 3, 6, 3, [0, 0, 1198]), (96, 0, .if_icmp .ge 46, 3, 0, 0, []), (99, 0, .aload_n 0, 1, 0, 0, []), (100, 0, .getfield 17, 3, 6, 1, [2, 0, 1195]), (103, 0, .iload 4, 2, 0, 0, []), (105, 0, .aaload, 1, 5, 0, []), (106, 0, .getfield 53, 3, 7, 7, [0, 1, 1080]), (109, 0, .ifCond .eq 7, 3, 0, 0, []), (112, 0, .iconst 0, 1, 0, 0, []), (113, 0, .goto 13, 3, 0, 0, []), (116, 0, .aload_n 0, 1, 0, 0, []), (117, 0, .getfield 17, 3, 6, 1, [2, 0, 1195]), (120, 0, .iload 4, 2, 0, 0, []), (122, 0, .aaload, 1, 5, 0, []), (123, 0, .invokevirtual 56, 3, 151, 7, [5206]), (126, 6, .istore 5, 2, 0, 0, []), (128, 0, .iload 5, 2, 0, 0, []), (130, 0, .ifCond .le 6, 3, 0, 0, []), (133, 0, .iload 5, 2, 0, 0, []), (135, 0, .ireturn, 1, 0, 0, []), (136, 0, .iinc 4 1, 3, 0, 0, []), (139, 0, .goto (-49), 3, 0, 0, []), (142, 0, .iconst 0, 1, 0, 0, []), (143, 0, .ireturn, 1, 0, 0, [])]
def m_Container_read : List aT := [(0, [(0, 2), (1, 2), (2, 0)], []), (39, [(0, 2)], [2]), (40, [(0, 2)], [0, 2]), (58, [(0, 2), (3, 0)], []), (90, [(0, 2), (4, 0)], []), (126, [(0, 2), (4, 0)], [0])]
def B_Container_read_0 (X : Nat → List Int → AMem → Prop) (Q : Int → AMem → Prop) (x0 x1 x2 : Int) (σ : AMem) : Prop :=
  (if ly_k x0 = 26 then (if ly_fin x0 2 = 0 then am_let (am_upd σ x0 2 x2) (fun σ1 => (if ly_k x0 = 26 then (if ly_k x1 = 2 then (if ly_k (am_rd GR σ1 x0 0) = 2 then (0 : Int) ≤ 0 ∧ (0 : Int) ≤ 0 ∧ 0 ≤ x2 ∧ 0 + x2 ≤ ly_l x1 ∧ 0 + x2 ≤ ly_l (am_rd GR σ1 x0 0) ∧ am_let (am_cp σ1 x1 0 (am_rd GR σ1 x0 0) 0 x2) (fun σ2 => (if ly_k x0 = 26 then (if ly_fin x0 3 = 0 then am_let (am_upd σ2 x0 3 0) (fun σ3 => (if x2 < 8 then
  X 1 [x0, x0] σ3
  else
  (if ly_k x0 = 26 then T_Container_isMagic [x0] σ3 (fun r4 σ5 => (if r4 = 0 then
    X 1 [x0, x0] σ5
    else
    X 2 [x0, 1, x0] σ5)) else False))) else False) else False)) else False) else False) else False)) else False) else False)
def B_Container_read_1 (X : Nat → List Int → AMem → Prop) (Q : Int → AMem → Prop) (x0 s0 : Int) (σ : AMem) : Prop :=
  X 2 [x0, 0, s0] σ
def B_Container_read_2 (X : Nat → List Int → AMem → Prop) (Q : Int → AMem → Prop) (x0 s0 s1 : Int) (σ : AMem) : Prop :=
  (if ly_k s1 = 26 then (if ly_fin s1 4 = 0 then (if s0 = 0 ∨ s0 = 1 then am_let (am_upd σ s1 4 s0) (fun σ1 => (if ly_k x0 = 26 then (if (am_rd GR σ1 x0 4) = 0 then
  (if ly_k x0 = 26 then T_Container_whole [x0] σ1 (fun r2 σ3 => Q r2 σ3) else False)
  else
  X 3 [x0, 8] σ1) else False)) else False) else False) else False)
def B_Container_read_3 (X : Nat → List Int → AMem → Prop) (Q : Int → AMem → Prop) (x0 x3 : Int) (σ : AMem) : Prop :=
  (if ly_k x0 = 26 then (if x3 < (am_rd GR σ x0 2) then
  (if ly_k x0 = 26 then T_Container_member [x0, x3] σ (fun r1 σ2 => (if r1 < 0 then
    Q 8 σ2
    else
    X 3 [x0, r1] σ2)) else False)
  else
  X 4 [x0, 0] σ) else False)
def B_Container_read_4 (X : Nat → List Int → AMem → Prop) (Q : Int → AMem → Prop) (x0 x4 : Int) (σ : AMem) : Prop :=
  (if ly_k x0 = 26 then (if x4 < (am_rd GR σ x0 3) then
  (if ly_k x0 = 26 then (if ly_k (am_rd GR σ x0 1) = 5 then 0 ≤ x4 ∧ x4 < ly_l (am_rd GR σ x0 1) ∧ (if ly_k (σ (am_rd GR σ x0 1) x4) = 27 then (if (am_rd GR σ (σ (am_rd GR σ x0 1) x4) 7) = 0 then
    (if ly_k x0 = 26 then (if ly_k (am_rd GR σ x0 1) = 5 then 0 ≤ x4 ∧ x4 < ly_l (am_rd GR σ x0 1) ∧ (if ly_k (σ (am_rd GR σ x0 1) x4) = 27 then T_Part_read [(σ (am_rd GR σ x0 1) x4)] σ (fun r1 σ2 => X 5 [x0, x4, r1] σ2) else False) else False) else False)
    else
    X 5 [x0, x4, 0] σ) else False) else False) else False)
  else
  Q 0 σ) else False)
def B_Container_read_5 (X : Nat → List Int → AMem → Prop) (Q : Int → AMem → Prop) (x0 x4 s0 : Int) (σ : AMem) : Prop :=
  (if 0 < s0 then
  Q s0 σ
  else
  am_r32 (x4 + 1) ∧ X 4 [x0, (x4 + 1)] σ)
def B_Container_read : (Nat → List Int → AMem → Prop) → (Int → AMem → Prop) → Nat → List Int → AMem → Prop := fun X Q j v σ => am_sel [(am_v3 (fun x0 x1 x2 σ => B_Container_read_0 X Q x0 x1 x2 σ)), (am_v2 (fun x0 s0 σ => B_Container_read_1 X Q x0 s0 σ)), (am_v3 (fun x0 s0 s1 σ => B_Container_read_2 X Q x0 s0 s1 σ)), (am_v2 (fun x0 x3 σ => B_Container_read_3 X Q x0 x3 σ)), (am_v2 (fun x0 x4 σ => B_Container_read_4 X Q x0 x4 σ)), (am_v3 (fun x0 x4 s0 σ => B_Container_read_5 X Q x0 x4 s0 σ))] j v σ
def T_Container_read : List Int → AMem → (Int → AMem → Prop) → Prop := am_T B_Container_read
abbrev y_Container_read : MethodName := ⟨"LinkHouse$Container", "read", "([BI)I"⟩
def a_Container_read : AC := (154, (y_Container_read, prog_2_method_2_code, 6, (Option.some Jvm.ClassFile.FieldType.int)), [2, 2, 0], 0, false, { frames := 6, cells := 0, slots := 0, locals := 193 }, T_Container_read)
set_option maxRecDepth 100000 in
theorem ms_Container_read : am_MSp a_Container_read := am_ms_v 5189 7 5187 5188 6 rfl (by decide +kernel)
abbrev k_Container_read : List AC := [a_Container_isMagic, a_Container_whole, a_Container_member, a_Part_read]
set_option maxRecDepth 100000 in
theorem s_Container_read : (am_chkR { frames := 6, cells := 0, slots := 0, locals := 193 } k_Container_read && am_chkN c_Container_read { frames := 6, cells := 0, slots := 0, locals := 193 } && c_Container_read.all (am_chk "LinkHouse$Container" prog_2_method_2_code 6 (Option.some Jvm.ClassFile.FieldType.int) k_Container_read) && c_Container_read.all (am_chkL m_Container_read) && decide (m_Container_read[0]? = some (0, am_argp 0 [2, 2, 0], [])) && decide (am_argn [2, 2, 0] ≤ 6)) = true := by decide +kernel
set_option maxHeartbeats 150000 in
set_option maxRecDepth 100000 in
theorem h_Container_read : ∀ X Q j v σ, B_Container_read X Q j v σ → am_at GR k_Container_read c_Container_read m_Container_read X Q 80 j v σ := fun X Q => am_sel_all (P := fun j v σ => am_at GR k_Container_read c_Container_read m_Container_read X Q 80 j v σ) (⟨(am_v3_of (fun x0 x1 x2 σ h => h)), ⟨(am_v2_of (fun x0 s0 σ h => h)), ⟨(am_v3_of (fun x0 s0 s1 σ h => h)), ⟨(am_v2_of (fun x0 x3 σ h => h)), ⟨(am_v2_of (fun x0 x4 σ h => h)), ⟨(am_v3_of (fun x0 x4 s0 σ h => h)), trivial⟩⟩⟩⟩⟩⟩)
set_option maxRecDepth 100000 in
theorem S_Container_read (l : Launch) (w : AW) : am_S l w GR a_Container_read := am_sound (rt := 0) (cal := k_Container_read) 154 y_Container_read prog_2_method_2_code 6 (Option.some Jvm.ClassFile.FieldType.int) [2, 2, 0] false { frames := 6, cells := 0, slots := 0, locals := 193 } B_Container_read "LinkHouse$Container" c_Container_read m_Container_read 80 ms_Container_read (by decide +kernel) rfl rfl (am_cal (S_Container_isMagic l w) (am_cal (S_Container_whole l w) (am_cal (S_Container_member l w) (am_cal (S_Part_read l w) (fun _ h => absurd h List.not_mem_nil))))) s_Container_read h_Container_read
set_option maxRecDepth 100000 in
theorem of_Container_read {Q : Int → AMem → Prop} {x0 x1 x2 : Int} {σ : AMem} (h : ∀ X : Nat → List Int → AMem → Prop, (∀ (x0 x1 x2 : Int) (σ : AMem), B_Container_read_0 X Q x0 x1 x2 σ → X 0 [x0, x1, x2] σ) → (∀ (x0 s0 : Int) (σ : AMem), B_Container_read_1 X Q x0 s0 σ → X 1 [x0, s0] σ) → (∀ (x0 s0 s1 : Int) (σ : AMem), B_Container_read_2 X Q x0 s0 s1 σ → X 2 [x0, s0, s1] σ) → (∀ (x0 x3 : Int) (σ : AMem), B_Container_read_3 X Q x0 x3 σ → X 3 [x0, x3] σ) → (∀ (x0 x4 : Int) (σ : AMem), B_Container_read_4 X Q x0 x4 σ → X 4 [x0, x4] σ) → (∀ (x0 x4 s0 : Int) (σ : AMem), B_Container_read_5 X Q x0 x4 s0 σ → X 5 [x0, x4, s0] σ) → X 0 [x0, x1, x2] σ) : T_Container_read [x0, x1, x2] σ Q := fun X hX => h X (fun x0 x1 x2 σ h => hX 0 [x0, x1, x2] σ h) (fun x0 s0 σ h => hX 1 [x0, s0] σ h) (fun x0 s0 s1 σ h => hX 2 [x0, s0, s1] σ h) (fun x0 x3 σ h => hX 3 [x0, x3] σ h) (fun x0 x4 σ h => hX 4 [x0, x4] σ h) (fun x0 x4 s0 σ h => hX 5 [x0, x4, s0] σ h)
def c_LinkHouse_add : List aE := [(0, 1, .aload_n 0, 1, 0, 0, []), (1, 0, .getfield 195, 3, 0, 18, [0, 0, 1231]), (4, 0, .bipush 8, 2, 0, 0, []), (6, 0, .if_icmp .ge 7, 3, 0, 0, []), (9, 0, .iconst 1, 1, 0, 0, []), (10, 0, .goto 4, 3, 0, 0, []), (13, 0, .iconst 0, 1, 0, 0, []), (14, 2, .invokestatic 192, 3, 138, 0, [5161]), (17, 0, .aload_n 0, 1, 0, 0, []), (18, 0, .getfield 18, 3, 0, 2, [2, 0, 1215]), (21, 0, .aload_n 0, 1, 0, 0, []), (22, 0, .getfield 195, 3, 0, 18, [0, 0, 1231]), (25, 0, .aaload, 1, 7, 0, []), (26, 0, .aload_n 0, 1, 0, 0, []), (27, 0, .getfield 29, 3, 0, 4, [2, 0, 1217]), (30, 0, .aload_n 0, 1, 0, 0, []), (31, 0, .getfield 189, 3, 0, 19, [0, 0, 1232]), (34, 0, .invokevirtual 198, 3, 154, 6, [5186]), (37, 0, .istore_n 1, 1, 0, 0, []), (38, 0, .aload_n 0, 1, 0, 0, []), (39, 0, .iconst 0, 1, 0, 0, []), (40, 0, .putfield 189, 3, 0, 19, [0, 0, 1232]), (43, 0, .iload_n 1, 1, 0, 0, []), (44, 0, .ifCond .ne 13, 3, 0, 0, []), (47, 0, .aload_n 0, 1, 0, 0, []), (48, 0, .dup, 1, 0, 0, []), (49, 0, .getfield 195, 3, 0, 18, [0, 0, 1231]), (52, 0, .iconst 1, 1, 0, 0, []), (53, 0, .iadd, 1, 0, 0, []), (54, 0, .putfield 195, 3, 0, 18, [0, 0, 1231]), (57, 0, .iload_n 1, 1, 0, 0, []), (58, 0, .ireturn, 1, 0, 0, [])]
def m_LinkHouse_add : List aT := [(0, [(0, 2)], []), (14, [(0, 2)], [0])]
def B_LinkHouse_add_0 (X : Nat → List Int → AMem → Prop) (Q : Int → AMem → Prop) (σ : AMem) : Prop :=
  (if (σ 1 18) < 8 then
  X 1 [1, 1] σ
  else
  X 1 [1, 0] σ)
def B_LinkHouse_add_1 (X : Nat → List Int → AMem → Prop) (Q : Int → AMem → Prop) (s0 : Int) (σ : AMem) : Prop :=
  T_LinkHouse_ready [s0] σ (fun r1 σ2 => 0 ≤ (σ2 1 18) ∧ (σ2 1 18) < 8 ∧ (if ly_k (σ2 15 (σ2 1 18)) = 26 then T_Container_read [(σ2 15 (σ2 1 18)), 8276, (σ2 1 19)] σ2 (fun r3 σ4 => am_let (am_upd σ4 1 19 0) (fun σ5 => (if r3 = 0 then
  am_r32 ((σ5 1 18) + 1) ∧ am_let (am_upd σ5 1 18 ((σ5 1 18) + 1)) (fun σ6 => Q r3 σ6)
  else
  Q r3 σ5))) else False))
def B_LinkHouse_add : (Nat → List Int → AMem → Prop) → (Int → AMem → Prop) → Nat → List Int → AMem → Prop := fun X Q j v σ => am_sel [(am_v1 (fun t σ => if t = 1 then B_LinkHouse_add_0 X Q σ else False)), (am_v2 (fun t s0 σ => if t = 1 then B_LinkHouse_add_1 X Q s0 σ else False))] j v σ
def T_LinkHouse_add : List Int → AMem → (Int → AMem → Prop) → Prop := am_T B_LinkHouse_add
abbrev y_LinkHouse_add : MethodName := ⟨"LinkHouse", "add", "()I"⟩
def a_LinkHouse_add : AC := (155, (y_LinkHouse_add, prog_1_method_7_code, 2, (Option.some Jvm.ClassFile.FieldType.int)), [2], 0, false, { frames := 9, cells := 0, slots := 0, locals := 248 }, T_LinkHouse_add)
set_option maxRecDepth 100000 in
theorem ms_LinkHouse_add : am_MSp a_LinkHouse_add := am_ms_v 5185 1 5183 5184 0 rfl (by decide +kernel)
abbrev k_LinkHouse_add : List AC := [a_LinkHouse_ready, a_Container_read]
set_option maxRecDepth 100000 in
theorem s_LinkHouse_add : (am_chkR { frames := 9, cells := 0, slots := 0, locals := 248 } k_LinkHouse_add && am_chkN c_LinkHouse_add { frames := 9, cells := 0, slots := 0, locals := 248 } && c_LinkHouse_add.all (am_chk "LinkHouse" prog_1_method_7_code 2 (Option.some Jvm.ClassFile.FieldType.int) k_LinkHouse_add) && c_LinkHouse_add.all (am_chkL m_LinkHouse_add) && decide (m_LinkHouse_add[0]? = some (0, am_argp 0 [2], [])) && decide (am_argn [2] ≤ 2)) = true := by decide +kernel
set_option maxHeartbeats 150000 in
set_option maxRecDepth 100000 in
theorem h_LinkHouse_add : ∀ X Q j v σ, B_LinkHouse_add X Q j v σ → am_at GR k_LinkHouse_add c_LinkHouse_add m_LinkHouse_add X Q 37 j v σ := fun X Q => am_sel_all (P := fun j v σ => am_at GR k_LinkHouse_add c_LinkHouse_add m_LinkHouse_add X Q 37 j v σ) (⟨(am_v1_of (fun t σ h => am_tk (fun e => by subst e; exact fun h => h) h)), ⟨(am_v2_of (fun t s0 σ h => am_tk (fun e => by subst e; exact fun h => h) h)), trivial⟩⟩)
set_option maxRecDepth 100000 in
theorem S_LinkHouse_add (l : Launch) (w : AW) : am_S l w GR a_LinkHouse_add := am_sound (rt := 0) (cal := k_LinkHouse_add) 155 y_LinkHouse_add prog_1_method_7_code 2 (Option.some Jvm.ClassFile.FieldType.int) [2] false { frames := 9, cells := 0, slots := 0, locals := 248 } B_LinkHouse_add "LinkHouse" c_LinkHouse_add m_LinkHouse_add 37 ms_LinkHouse_add (by decide +kernel) rfl rfl (am_cal (S_LinkHouse_ready l w) (am_cal (S_Container_read l w) (fun _ h => absurd h List.not_mem_nil))) s_LinkHouse_add h_LinkHouse_add
set_option maxRecDepth 100000 in
theorem of_LinkHouse_add {Q : Int → AMem → Prop} {σ : AMem} (h : ∀ X : Nat → List Int → AMem → Prop, (∀ (σ : AMem), B_LinkHouse_add_0 X Q σ → X 0 [1] σ) → (∀ (s0 : Int) (σ : AMem), B_LinkHouse_add_1 X Q s0 σ → X 1 [1, s0] σ) → X 0 [1] σ) : T_LinkHouse_add [1] σ Q := fun X hX => h X (fun σ h => hX 0 [1] σ h) (fun s0 σ h => hX 1 [1, s0] σ h)
def c_LinkHouse_drop : List aE := [(0, 1, .aload_n 0, 1, 0, 0, []), (1, 0, .getfield 195, 3, 0, 18, [0, 0, 1231]), (4, 0, .ifCond .le 7, 3, 0, 0, []), (7, 0, .iconst 1, 1, 0, 0, []), (8, 0, .goto 4, 3, 0, 0, []), (11, 0, .iconst 0, 1, 0, 0, []), (12, 2, .invokestatic 192, 3, 138, 0, [5161]), (15, 0, .aload_n 0, 1, 0, 0, []), (16, 0, .dup, 1, 0, 0, []), (17, 0, .getfield 195, 3, 0, 18, [0, 0, 1231]), (20, 0, .iconst 1, 1, 0, 0, []), (21, 0, .isub, 1, 0, 0, []), (22, 0, .dup_x1, 1, 0, 0, []), (23, 0, .putfield 195, 3, 0, 18, [0, 0, 1231]), (26, 0, .ireturn, 1, 0, 0, [])]
def m_LinkHouse_drop : List aT := [(0, [(0, 2)], []), (12, [(0, 2)], [0])]
def B_LinkHouse_drop_0 (X : Nat → List Int → AMem → Prop) (Q : Int → AMem → Prop) (σ : AMem) : Prop :=
  (if 0 < (σ 1 18) then
  X 1 [1, 1] σ
  else
  X 1 [1, 0] σ)
def B_LinkHouse_drop_1 (X : Nat → List Int → AMem → Prop) (Q : Int → AMem → Prop) (s0 : Int) (σ : AMem) : Prop :=
  T_LinkHouse_ready [s0] σ (fun r1 σ2 => am_r32 ((σ2 1 18) - 1) ∧ am_let (am_upd σ2 1 18 ((σ2 1 18) - 1)) (fun σ3 => Q ((σ2 1 18) - 1) σ3))
def B_LinkHouse_drop : (Nat → List Int → AMem → Prop) → (Int → AMem → Prop) → Nat → List Int → AMem → Prop := fun X Q j v σ => am_sel [(am_v1 (fun t σ => if t = 1 then B_LinkHouse_drop_0 X Q σ else False)), (am_v2 (fun t s0 σ => if t = 1 then B_LinkHouse_drop_1 X Q s0 σ else False))] j v σ
def T_LinkHouse_drop : List Int → AMem → (Int → AMem → Prop) → Prop := am_T B_LinkHouse_drop
abbrev y_LinkHouse_drop : MethodName := ⟨"LinkHouse", "drop", "()I"⟩
def a_LinkHouse_drop : AC := (156, (y_LinkHouse_drop, prog_1_method_8_code, 1, (Option.some Jvm.ClassFile.FieldType.int)), [2], 0, false, { frames := 9, cells := 0, slots := 0, locals := 248 }, T_LinkHouse_drop)
set_option maxRecDepth 100000 in
theorem ms_LinkHouse_drop : am_MSp a_LinkHouse_drop := am_ms_v 6033 1 6031 6032 0 rfl (by decide +kernel)
abbrev k_LinkHouse_drop : List AC := [a_LinkHouse_ready]
set_option maxRecDepth 100000 in
theorem s_LinkHouse_drop : (am_chkR { frames := 9, cells := 0, slots := 0, locals := 248 } k_LinkHouse_drop && am_chkN c_LinkHouse_drop { frames := 9, cells := 0, slots := 0, locals := 248 } && c_LinkHouse_drop.all (am_chk "LinkHouse" prog_1_method_8_code 1 (Option.some Jvm.ClassFile.FieldType.int) k_LinkHouse_drop) && c_LinkHouse_drop.all (am_chkL m_LinkHouse_drop) && decide (m_LinkHouse_drop[0]? = some (0, am_argp 0 [2], [])) && decide (am_argn [2] ≤ 1)) = true := by decide +kernel
set_option maxHeartbeats 150000 in
set_option maxRecDepth 100000 in
theorem h_LinkHouse_drop : ∀ X Q j v σ, B_LinkHouse_drop X Q j v σ → am_at GR k_LinkHouse_drop c_LinkHouse_drop m_LinkHouse_drop X Q 20 j v σ := fun X Q => am_sel_all (P := fun j v σ => am_at GR k_LinkHouse_drop c_LinkHouse_drop m_LinkHouse_drop X Q 20 j v σ) (⟨(am_v1_of (fun t σ h => am_tk (fun e => by subst e; exact fun h => h) h)), ⟨(am_v2_of (fun t s0 σ h => am_tk (fun e => by subst e; exact fun h => h) h)), trivial⟩⟩)
set_option maxRecDepth 100000 in
theorem S_LinkHouse_drop (l : Launch) (w : AW) : am_S l w GR a_LinkHouse_drop := am_sound (rt := 0) (cal := k_LinkHouse_drop) 156 y_LinkHouse_drop prog_1_method_8_code 1 (Option.some Jvm.ClassFile.FieldType.int) [2] false { frames := 9, cells := 0, slots := 0, locals := 248 } B_LinkHouse_drop "LinkHouse" c_LinkHouse_drop m_LinkHouse_drop 20 ms_LinkHouse_drop (by decide +kernel) rfl rfl (am_cal (S_LinkHouse_ready l w) (fun _ h => absurd h List.not_mem_nil)) s_LinkHouse_drop h_LinkHouse_drop
set_option maxRecDepth 100000 in
theorem of_LinkHouse_drop {Q : Int → AMem → Prop} {σ : AMem} (h : ∀ X : Nat → List Int → AMem → Prop, (∀ (σ : AMem), B_LinkHouse_drop_0 X Q σ → X 0 [1] σ) → (∀ (s0 : Int) (σ : AMem), B_LinkHouse_drop_1 X Q s0 σ → X 1 [1, s0] σ) → X 0 [1] σ) : T_LinkHouse_drop [1] σ Q := fun X hX => h X (fun σ h => hX 0 [1] σ h) (fun s0 σ h => hX 1 [1, s0] σ h)
def c_LinkHouse_asName : List aE := [(0, 1, .aload_n 0, 1, 0, 0, []), (1, 0, .getfield 189, 3, 0, 19, [0, 0, 1232]), (4, 0, .istore_n 1, 1, 0, 0, []), (5, 0, .aload_n 0, 1, 0, 0, []), (6, 0, .iconst 0, 1, 0, 0, []), (7, 0, .putfield 189, 3, 0, 19, [0, 0, 1232]), (10, 0, .iload_n 1, 1, 0, 0, []), (11, 0, .iconst 1, 1, 0, 0, []), (12, 0, .if_icmp .lt 13, 3, 0, 0, []), (15, 0, .iload_n 1, 1, 0, 0, []), (16, 0, .bipush 20, 2, 0, 0, []), (18, 0, .if_icmp .gt 7, 3, 0, 0, []), (21, 0, .iconst 1, 1, 0, 0, []), (22, 0, .goto 4, 3, 0, 0, []), (25, 2, .iconst 0, 1, 0, 0, []), (26, 3, .istore_n 2, 1, 0, 0, []), (27, 0, .iconst 0, 1, 0, 0, []), (28, 0, .istore_n 3, 1, 0, 0, []), (29, 4, .iload_n 3, 1, 0, 0, []), (30, 0, .iload_n 1, 1, 0, 0, []), (31, 0, .if_icmp .ge 28, 3, 0, 0, []), (34, 0, .iload_n 2, 1, 0, 0, []), (35, 0, .ifCond .eq 24, 3, 0, 0, []), (38, 0, .aload_n 0, 1, 0, 0, []), (39, 0, .getfield 29, 3, 0, 4, [2, 0, 1217]), (42, 0, .iload_n 3, 1, 0, 0, []), (43, 0, .baload, 1, 2, 0, []), (44, 0, .ifCond .eq 7, 3, 0, 0, []), (47, 0, .iconst 1, 1, 0, 0, []), (48, 0, .goto 4, 3, 0, 0, []), (51, 0, .iconst 0, 1, 0, 0, []), (52, 5, .istore_n 2, 1, 0, 0, []), (53, 0, .iinc 3 1, 3, 0, 0, []), (56, 0, .goto (-27), 3, 0, 0, []), (59, 6, .iload_n 2, 1, 0, 0, []), (60, 0, .invokestatic 185, 3, 137, 0, [5095]), (63, 0, .iload_n 1, 1, 0, 0, []), (64, 0, .ireturn, 1, 0, 0, [])]
def m_LinkHouse_asName : List aT := [(0, [(0, 2)], []), (25, [(0, 2), (1, 0)], []), (26, [(0, 2), (1, 0)], [0]), (29, [(0, 2), (1, 0), (2, 0), (3, 0)], []), (52, [(0, 2), (1, 0), (3, 0)], [0]), (59, [(1, 0), (2, 0)], [])]
def B_LinkHouse_asName_0 (X : Nat → List Int → AMem → Prop) (Q : Int → AMem → Prop) (σ : AMem) : Prop :=
  am_let (am_upd σ 1 19 0) (fun σ1 => (if (σ 1 19) < 1 then
  X 1 [1, (σ 1 19)] σ1
  else
  (if 20 < (σ 1 19) then
    X 1 [1, (σ 1 19)] σ1
    else
    X 2 [1, (σ 1 19), 1] σ1)))
def B_LinkHouse_asName_1 (X : Nat → List Int → AMem → Prop) (Q : Int → AMem → Prop) (x1 : Int) (σ : AMem) : Prop :=
  X 2 [1, x1, 0] σ
def B_LinkHouse_asName_2 (X : Nat → List Int → AMem → Prop) (Q : Int → AMem → Prop) (x1 s0 : Int) (σ : AMem) : Prop :=
  X 3 [1, x1, s0, 0] σ
def B_LinkHouse_asName_3 (X : Nat → List Int → AMem → Prop) (Q : Int → AMem → Prop) (x1 x2 x3 : Int) (σ : AMem) : Prop :=
  (if x3 < x1 then
  (if x2 = 0 then
    X 5 [x1, x2] σ
    else
    0 ≤ x3 ∧ x3 < 8192 ∧ (if (σ 8276 x3) = 0 then
      X 4 [1, x1, x3, 0] σ
      else
      X 4 [1, x1, x3, 1] σ))
  else
  X 5 [x1, x2] σ)
def B_LinkHouse_asName_4 (X : Nat → List Int → AMem → Prop) (Q : Int → AMem → Prop) (x1 x3 s0 : Int) (σ : AMem) : Prop :=
  am_r32 (x3 + 1) ∧ X 3 [1, x1, s0, (x3 + 1)] σ
def B_LinkHouse_asName_5 (X : Nat → List Int → AMem → Prop) (Q : Int → AMem → Prop) (x1 x2 : Int) (σ : AMem) : Prop :=
  T_LinkHouse_need [x2] σ (fun r1 σ2 => Q x1 σ2)
def B_LinkHouse_asName : (Nat → List Int → AMem → Prop) → (Int → AMem → Prop) → Nat → List Int → AMem → Prop := fun X Q j v σ => am_sel [(am_v1 (fun t σ => if t = 1 then B_LinkHouse_asName_0 X Q σ else False)), (am_v2 (fun t x1 σ => if t = 1 then B_LinkHouse_asName_1 X Q x1 σ else False)), (am_v3 (fun t x1 s0 σ => if t = 1 then B_LinkHouse_asName_2 X Q x1 s0 σ else False)), (am_v4 (fun t x1 x2 x3 σ => if t = 1 then B_LinkHouse_asName_3 X Q x1 x2 x3 σ else False)), (am_v4 (fun t x1 x3 s0 σ => if t = 1 then B_LinkHouse_asName_4 X Q x1 x3 s0 σ else False)), (am_v2 (fun x1 x2 σ => B_LinkHouse_asName_5 X Q x1 x2 σ))] j v σ
def T_LinkHouse_asName : List Int → AMem → (Int → AMem → Prop) → Prop := am_T B_LinkHouse_asName
abbrev y_LinkHouse_asName : MethodName := ⟨"LinkHouse", "asName", "()I"⟩
def a_LinkHouse_asName : AC := (157, (y_LinkHouse_asName, prog_1_method_69_code, 4, (Option.some Jvm.ClassFile.FieldType.int)), [2], 0, false, { frames := 9, cells := 0, slots := 0, locals := 248 }, T_LinkHouse_asName)
set_option maxRecDepth 100000 in
theorem ms_LinkHouse_asName : am_MSp a_LinkHouse_asName := am_ms_v 6044 1 6043 105005 0 rfl (by decide +kernel)
abbrev k_LinkHouse_asName : List AC := [a_LinkHouse_need]
set_option maxRecDepth 100000 in
theorem s_LinkHouse_asName : (am_chkR { frames := 9, cells := 0, slots := 0, locals := 248 } k_LinkHouse_asName && am_chkN c_LinkHouse_asName { frames := 9, cells := 0, slots := 0, locals := 248 } && c_LinkHouse_asName.all (am_chk "LinkHouse" prog_1_method_69_code 4 (Option.some Jvm.ClassFile.FieldType.int) k_LinkHouse_asName) && c_LinkHouse_asName.all (am_chkL m_LinkHouse_asName) && decide (m_LinkHouse_asName[0]? = some (0, am_argp 0 [2], [])) && decide (am_argn [2] ≤ 4)) = true := by decide +kernel
set_option maxHeartbeats 150000 in
set_option maxRecDepth 100000 in
theorem h_LinkHouse_asName : ∀ X Q j v σ, B_LinkHouse_asName X Q j v σ → am_at GR k_LinkHouse_asName c_LinkHouse_asName m_LinkHouse_asName X Q 43 j v σ := fun X Q => am_sel_all (P := fun j v σ => am_at GR k_LinkHouse_asName c_LinkHouse_asName m_LinkHouse_asName X Q 43 j v σ) (⟨(am_v1_of (fun t σ h => am_tk (fun e => by subst e; exact fun h => h) h)), ⟨(am_v2_of (fun t x1 σ h => am_tk (fun e => by subst e; exact fun h => h) h)), ⟨(am_v3_of (fun t x1 s0 σ h => am_tk (fun e => by subst e; exact fun h => h) h)), ⟨(am_v4_of (fun t x1 x2 x3 σ h => am_tk (fun e => by subst e; exact fun h => h) h)), ⟨(am_v4_of (fun t x1 x3 s0 σ h => am_tk (fun e => by subst e; exact fun h => h) h)), ⟨(am_v2_of (fun x1 x2 σ h => h)), trivial⟩⟩⟩⟩⟩⟩)
set_option maxRecDepth 100000 in
theorem S_LinkHouse_asName (l : Launch) (w : AW) : am_S l w GR a_LinkHouse_asName := am_sound (rt := 0) (cal := k_LinkHouse_asName) 157 y_LinkHouse_asName prog_1_method_69_code 4 (Option.some Jvm.ClassFile.FieldType.int) [2] false { frames := 9, cells := 0, slots := 0, locals := 248 } B_LinkHouse_asName "LinkHouse" c_LinkHouse_asName m_LinkHouse_asName 43 ms_LinkHouse_asName (by decide +kernel) rfl rfl (am_cal (S_LinkHouse_need l w) (fun _ h => absurd h List.not_mem_nil)) s_LinkHouse_asName h_LinkHouse_asName
set_option maxRecDepth 100000 in
theorem of_LinkHouse_asName {Q : Int → AMem → Prop} {σ : AMem} (h : ∀ X : Nat → List Int → AMem → Prop, (∀ (σ : AMem), B_LinkHouse_asName_0 X Q σ → X 0 [1] σ) → (∀ (x1 : Int) (σ : AMem), B_LinkHouse_asName_1 X Q x1 σ → X 1 [1, x1] σ) → (∀ (x1 s0 : Int) (σ : AMem), B_LinkHouse_asName_2 X Q x1 s0 σ → X 2 [1, x1, s0] σ) → (∀ (x1 x2 x3 : Int) (σ : AMem), B_LinkHouse_asName_3 X Q x1 x2 x3 σ → X 3 [1, x1, x2, x3] σ) → (∀ (x1 x3 s0 : Int) (σ : AMem), B_LinkHouse_asName_4 X Q x1 x3 s0 σ → X 4 [1, x1, x3, s0] σ) → (∀ (x1 x2 : Int) (σ : AMem), B_LinkHouse_asName_5 X Q x1 x2 σ → X 5 [x1, x2] σ) → X 0 [1] σ) : T_LinkHouse_asName [1] σ Q := fun X hX => h X (fun σ h => hX 0 [1] σ h) (fun x1 σ h => hX 1 [1, x1] σ h) (fun x1 s0 σ h => hX 2 [1, x1, s0] σ h) (fun x1 x2 x3 σ h => hX 3 [1, x1, x2, x3] σ h) (fun x1 x3 s0 σ h => hX 4 [1, x1, x3, s0] σ h) (fun x1 x2 σ h => hX 5 [x1, x2] σ h)
def c_LinkHouse_placeOf : List aE := [(0, 1, .iconst 0, 1, 0, 0, []), (1, 0, .istore 5, 2, 0, 0, []), (3, 2, .iload 5, 2, 0, 0, []), (5, 0, .iload_n 2, 1, 0, 0, []), (6, 0, .if_icmp .ge 75, 3, 0, 0, []), (9, 0, .aload_n 1, 1, 0, 0, []), (10, 0, .iload 5, 2, 0, 0, []), (12, 0, .iaload, 1, 0, 0, []), (13, 0, .iload 4, 2, 0, 0, []), (15, 0, .if_icmp .ne 7, 3, 0, 0, []), (18, 0, .iconst 1, 1, 0, 0, []), (19, 0, .goto 4, 3, 0, 0, []), (22, 0, .iconst 0, 1, 0, 0, []), (23, 3, .istore 6, 2, 0, 0, []), (25, 0, .iconst 0, 1, 0, 0, []), (26, 0, .istore 7, 2, 0, 0, []), (28, 4, .iload 7, 2, 0, 0, []), (30, 0, .iload 4, 2, 0, 0, []), (32, 0, .if_icmp .ge 35, 3, 0, 0, []), (35, 0, .iload 6, 2, 0, 0, []), (37, 0, .ifCond .eq 30, 3, 0, 0, []), (40, 0, .aload_n 0, 1, 0, 0, []), (41, 0, .iload 5, 2, 0, 0, []), (43, 0, .aaload, 1, 9, 0, []), (44, 0, .iload 7, 2, 0, 0, []), (46, 0, .baload, 1, 2, 0, []), (47, 0, .aload_n 3, 1, 0, 0, []), (48, 0, .iload 7, 2, 0, 0, []), (50, 0, .baload, 1, 2, 0, []), (51, 0, .if_icmp .ne 7, 3, 0, 0, []), (54, 0, .iconst 1, 1, 0, 0, []), (55, 0, .goto 4, 3, 0, 0, []), (58, 0, .iconst 0, 1, 0, 0, []), (59, 5, .istore 6, 2, 0, 0, []), (61, 0, .iinc 7 1, 3, 0, 0, []), (64, 0, .goto (-36), 3, 0, 0, []), (67, 6, .iload 6, 2, 0, 0, []), (69, 0, .ifCond .eq 6, 3, 0, 0, []), (72, 0, .iload 5, 2, 0, 0, []), (74, 0, .ireturn, 1, 0, 0, []), (75, 0, .iinc 5 1, 3, 0, 0, []), (78, 0, .goto (-75), 3, 0, 0, []), (81, 0, .iconst (-1), 1, 0, 0, []), (82, 0, .ireturn, 1, 0, 0, [])]
def m_LinkHouse_placeOf : List aT := [(0, [(0, 2), (1, 2), (2, 0), (3, 2), (4, 0)], []), (3, [(0, 2), (1, 2), (2, 0), (3, 2), (4, 0), (5, 0)], []), (23, [(0, 2), (1, 2), (2, 0), (3, 2), (4, 0), (5, 0)], [0]), (28, [(0, 2), (1, 2), (2, 0), (3, 2), (4, 0), (5, 0), (6, 0), (7, 0)], []), (59, [(0, 2), (1, 2), (2, 0), (3, 2), (4, 0), (5, 0), (7, 0)], [0]), (67, [(0, 2), (1, 2), (2, 0), (3, 2), (4, 0), (5, 0), (6, 0)], [])]
def B_LinkHouse_placeOf_0 (X : Nat → List Int → AMem → Prop) (Q : Int → AMem → Prop) (x0 x1 x2 x3 x4 : Int) (σ : AMem) : Prop :=
  X 1 [x0, x1, x2, x3, x4, 0] σ
def B_LinkHouse_placeOf_1 (X : Nat → List Int → AMem → Prop) (Q : Int → AMem → Prop) (x0 x1 x2 x3 x4 x5 : Int) (σ : AMem) : Prop :=
  (if x5 < x2 then
  (if ly_k x1 = 1 then 0 ≤ x5 ∧ x5 < ly_l x1 ∧ (if (σ x1 x5) = x4 then
    X 2 [x0, x1, x2, x3, x4, x5, 1] σ
    else
    X 2 [x0, x1, x2, x3, x4, x5, 0] σ) else False)
  else
  Q (-1) σ)
def B_LinkHouse_placeOf_2 (X : Nat → List Int → AMem → Prop) (Q : Int → AMem → Prop) (x0 x1 x2 x3 x4 x5 s0 : Int) (σ : AMem) : Prop :=
  X 3 [x0, x1, x2, x3, x4, x5, s0, 0] σ
def B_LinkHouse_placeOf_3 (X : Nat → List Int → AMem → Prop) (Q : Int → AMem → Prop) (x0 x1 x2 x3 x4 x5 x6 x7 : Int) (σ : AMem) : Prop :=
  (if x7 < x4 then
  (if x6 = 0 then
    X 5 [x0, x1, x2, x3, x4, x5, x6] σ
    else
    (if ly_k x0 = 9 then 0 ≤ x5 ∧ x5 < ly_l x0 ∧ (if ly_k (σ x0 x5) = 2 then 0 ≤ x7 ∧ x7 < ly_l (σ x0 x5) ∧ (if ly_k x3 = 2 then 0 ≤ x7 ∧ x7 < ly_l x3 ∧ (if (σ (σ x0 x5) x7) = (σ x3 x7) then
      X 4 [x0, x1, x2, x3, x4, x5, x7, 1] σ
      else
      X 4 [x0, x1, x2, x3, x4, x5, x7, 0] σ) else False) else False) else False))
  else
  X 5 [x0, x1, x2, x3, x4, x5, x6] σ)
def B_LinkHouse_placeOf_4 (X : Nat → List Int → AMem → Prop) (Q : Int → AMem → Prop) (x0 x1 x2 x3 x4 x5 x7 s0 : Int) (σ : AMem) : Prop :=
  am_r32 (x7 + 1) ∧ X 3 [x0, x1, x2, x3, x4, x5, s0, (x7 + 1)] σ
def B_LinkHouse_placeOf_5 (X : Nat → List Int → AMem → Prop) (Q : Int → AMem → Prop) (x0 x1 x2 x3 x4 x5 x6 : Int) (σ : AMem) : Prop :=
  (if x6 = 0 then
  am_r32 (x5 + 1) ∧ X 1 [x0, x1, x2, x3, x4, (x5 + 1)] σ
  else
  Q x5 σ)
def B_LinkHouse_placeOf : (Nat → List Int → AMem → Prop) → (Int → AMem → Prop) → Nat → List Int → AMem → Prop := fun X Q j v σ => am_sel [(am_v5 (fun x0 x1 x2 x3 x4 σ => B_LinkHouse_placeOf_0 X Q x0 x1 x2 x3 x4 σ)), (am_v6 (fun x0 x1 x2 x3 x4 x5 σ => B_LinkHouse_placeOf_1 X Q x0 x1 x2 x3 x4 x5 σ)), (am_v7 (fun x0 x1 x2 x3 x4 x5 s0 σ => B_LinkHouse_placeOf_2 X Q x0 x1 x2 x3 x4 x5 s0 σ)), (am_v8 (fun x0 x1 x2 x3 x4 x5 x6 x7 σ => B_LinkHouse_placeOf_3 X Q x0 x1 x2 x3 x4 x5 x6 x7 σ)), (am_v8 (fun x0 x1 x2 x3 x4 x5 x7 s0 σ => B_LinkHouse_placeOf_4 X Q x0 x1 x2 x3 x4 x5 x7 s0 σ)), (am_v7 (fun x0 x1 x2 x3 x4 x5 x6 σ => B_LinkHouse_placeOf_5 X Q x0 x1 x2 x3 x4 x5 x6 σ))] j v σ
def T_LinkHouse_placeOf : List Int → AMem → (Int → AMem → Prop) → Prop := am_T B_LinkHouse_placeOf
abbrev y_LinkHouse_placeOf : MethodName := ⟨"LinkHouse", "placeOf", "([[B[II[BI)I"⟩
def a_LinkHouse_placeOf : AC := (158, (y_LinkHouse_placeOf, prog_1_method_68_code, 8, (Option.some Jvm.ClassFile.FieldType.int)), [2, 2, 0, 2, 0], 0, true, { frames := 0, cells := 0, slots := 0, locals := 0 }, T_LinkHouse_placeOf)
set_option maxRecDepth 100000 in
theorem ms_LinkHouse_placeOf : am_MSp a_LinkHouse_placeOf := am_ms_s 6047 1 6046 rfl (by decide +kernel)
abbrev k_LinkHouse_placeOf : List AC := []
set_option maxRecDepth 100000 in
theorem s_LinkHouse_placeOf : (am_chkR { frames := 0, cells := 0, slots := 0, locals := 0 } k_LinkHouse_placeOf && am_chkN c_LinkHouse_placeOf { frames := 0, cells := 0, slots := 0, locals := 0 } && c_LinkHouse_placeOf.all (am_chk "LinkHouse" prog_1_method_68_code 8 (Option.some Jvm.ClassFile.FieldType.int) k_LinkHouse_placeOf) && c_LinkHouse_placeOf.all (am_chkL m_LinkHouse_placeOf) && decide (m_LinkHouse_placeOf[0]? = some (0, am_argp 0 [2, 2, 0, 2, 0], [])) && decide (am_argn [2, 2, 0, 2, 0] ≤ 8)) = true := by decide +kernel
set_option maxHeartbeats 150000 in
set_option maxRecDepth 100000 in
theorem h_LinkHouse_placeOf : ∀ X Q j v σ, B_LinkHouse_placeOf X Q j v σ → am_at GR k_LinkHouse_placeOf c_LinkHouse_placeOf m_LinkHouse_placeOf X Q 49 j v σ := fun X Q => am_sel_all (P := fun j v σ => am_at GR k_LinkHouse_placeOf c_LinkHouse_placeOf m_LinkHouse_placeOf X Q 49 j v σ) (⟨(am_v5_of (fun x0 x1 x2 x3 x4 σ h => h)), ⟨(am_v6_of (fun x0 x1 x2 x3 x4 x5 σ h => h)), ⟨(am_v7_of (fun x0 x1 x2 x3 x4 x5 s0 σ h => h)), ⟨(am_v8_of (fun x0 x1 x2 x3 x4 x5 x6 x7 σ h => h)), ⟨(am_v8_of (fun x0 x1 x2 x3 x4 x5 x7 s0 σ h => h)), ⟨(am_v7_of (fun x0 x1 x2 x3 x4 x5 x6 σ h => h)), trivial⟩⟩⟩⟩⟩⟩)
set_option maxRecDepth 100000 in
theorem S_LinkHouse_placeOf (l : Launch) (w : AW) : am_S l w GR a_LinkHouse_placeOf := am_sound (rt := 0) (cal := k_LinkHouse_placeOf) 158 y_LinkHouse_placeOf prog_1_method_68_code 8 (Option.some Jvm.ClassFile.FieldType.int) [2, 2, 0, 2, 0] true { frames := 0, cells := 0, slots := 0, locals := 0 } B_LinkHouse_placeOf "LinkHouse" c_LinkHouse_placeOf m_LinkHouse_placeOf 49 ms_LinkHouse_placeOf (by decide +kernel) rfl rfl (fun _ h => absurd h List.not_mem_nil) s_LinkHouse_placeOf h_LinkHouse_placeOf
set_option maxRecDepth 100000 in
theorem of_LinkHouse_placeOf {Q : Int → AMem → Prop} {x0 x1 x2 x3 x4 : Int} {σ : AMem} (h : ∀ X : Nat → List Int → AMem → Prop, (∀ (x0 x1 x2 x3 x4 : Int) (σ : AMem), B_LinkHouse_placeOf_0 X Q x0 x1 x2 x3 x4 σ → X 0 [x0, x1, x2, x3, x4] σ) → (∀ (x0 x1 x2 x3 x4 x5 : Int) (σ : AMem), B_LinkHouse_placeOf_1 X Q x0 x1 x2 x3 x4 x5 σ → X 1 [x0, x1, x2, x3, x4, x5] σ) → (∀ (x0 x1 x2 x3 x4 x5 s0 : Int) (σ : AMem), B_LinkHouse_placeOf_2 X Q x0 x1 x2 x3 x4 x5 s0 σ → X 2 [x0, x1, x2, x3, x4, x5, s0] σ) → (∀ (x0 x1 x2 x3 x4 x5 x6 x7 : Int) (σ : AMem), B_LinkHouse_placeOf_3 X Q x0 x1 x2 x3 x4 x5 x6 x7 σ → X 3 [x0, x1, x2, x3, x4, x5, x6, x7] σ) → (∀ (x0 x1 x2 x3 x4 x5 x7 s0 : Int) (σ : AMem), B_LinkHouse_placeOf_4 X Q x0 x1 x2 x3 x4 x5 x7 s0 σ → X 4 [x0, x1, x2, x3, x4, x5, x7, s0] σ) → (∀ (x0 x1 x2 x3 x4 x5 x6 : Int) (σ : AMem), B_LinkHouse_placeOf_5 X Q x0 x1 x2 x3 x4 x5 x6 σ → X 5 [x0, x1, x2, x3, x4, x5, x6] σ) → X 0 [x0, x1, x2, x3, x4] σ) : T_LinkHouse_placeOf [x0, x1, x2, x3, x4] σ Q := fun X hX => h X (fun x0 x1 x2 x3 x4 σ h => hX 0 [x0, x1, x2, x3, x4] σ h) (fun x0 x1 x2 x3 x4 x5 σ h => hX 1 [x0, x1, x2, x3, x4, x5] σ h) (fun x0 x1 x2 x3 x4 x5 s0 σ h => hX 2 [x0, x1, x2, x3, x4, x5, s0] σ h) (fun x0 x1 x2 x3 x4 x5 x6 x7 σ h => hX 3 [x0, x1, x2, x3, x4, x5, x6, x7] σ h) (fun x0 x1 x2 x3 x4 x5 x7 s0 σ h => hX 4 [x0, x1, x2, x3, x4, x5, x7, s0] σ h) (fun x0 x1 x2 x3 x4 x5 x6 σ h => hX 5 [x0, x1, x2, x3, x4, x5, x6] σ h)
