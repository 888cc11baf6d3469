/-! methods: printed by gen/all.py -/
def c_Part_symbols : List aE := [(0, 1, .iconst 0, 1, 0, 0, []), (1, 0, .istore_n 1, 1, 0, 0, []), (2, 2, .iload_n 1, 1, 0, 0, []), (3, 0, .aload_n 0, 1, 0, 0, []), (4, 0, .getfield 142, 3, 7, 3, [0, 0, 1072]), (7, 0, .if_icmp .ge 36, 3, 0, 0, []), (10, 0, .aload_n 0, 1, 0, 0, []), (11, 0, .getfield 9, 3, 7, 8, [2, 0, 1082]), (14, 0, .iload_n 1, 1, 0, 0, []), (15, 0, .iaload, 1, 0, 0, []), (16, 0, .iconst 2, 1, 0, 0, []), (17, 0, .if_icmp .eq 6, 3, 0, 0, []), (20, 0, .goto 17, 3, 0, 0, []), (23, 0, .aload_n 0, 1, 0, 0, []), (24, 0, .getfield 148, 3, 7, 5, [0, 0, 1076]), (27, 0, .ifCond .lt 5, 3, 0, 0, []), (30, 0, .iconst 5, 1, 0, 0, []), (31, 0, .ireturn, 1, 0, 0, []), (32, 0, .aload_n 0, 1, 0, 0, []), (33, 0, .iload_n 1, 1, 0, 0, []), (34, 0, .putfield 148, 3, 7, 5, [0, 0, 1076]), (37, 3, .iinc 1 1, 3, 0, 0, []), (40, 0, .goto (-38), 3, 0, 0, []), (43, 0, .aload_n 0, 1, 0, 0, []), (44, 0, .getfield 148, 3, 7, 5, [0, 0, 1076]), (47, 0, .ifCond .ge 5, 3, 0, 0, []), (50, 0, .iconst 0, 1, 0, 0, []), (51, 0, .ireturn, 1, 0, 0, []), (52, 0, .aload_n 0, 1, 0, 0, []), (53, 0, .getfield 148, 3, 7, 5, [0, 0, 1076]), (56, 0, .istore_n 1, 1, 0, 0, []), (57, 0, .aload_n 0, 1, 0, 0, []), (58, 0, .getfield 28, 3, 7, 13, [2, 0, 1092]), (61, 0, .iload_n 1, 1, 0, 0, []), (62, 0, .laload, 1, 0, 0, []), (63, 0, .ldc2_w 136, 3, 24, 0, [5220]), (66, 0, .lrem, 1, 0, 0, []), (67, 0, .lconst 0, 1, 0, 0, []), (68, 0, .lcmp, 1, 0, 0, []), (69, 0, .ifCond .ne 57, 3, 0, 0, []), (72, 0, .aload_n 0, 1, 0, 0, []), (73, 0, .getfield 28, 3, 7, 13, [2, 0, 1092]), (76, 0, .iload_n 1, 1, 0, 0, []), (77, 0, .laload, 1, 0, 0, []), (78, 0, .ldc2_w 136, 3, 24, 0, [5220]), (81, 0, .ldiv, 1, 0, 0, []), (82, 0, .ldc2_w 128, 3, 64, 0, [5216]), (85, 0, .lcmp, 1, 0, 0, []), (86, 0, .ifCond .gt 40, 3, 0, 0, []), (89, 0, .aload_n 0, 1, 0, 0, []), (90, 0, .getfield 15, 3, 7, 9, [2, 0, 1084]), (93, 0, .iload_n 1, 1, 0, 0, []), (94, 0, .iaload, 1, 0, 0, []), (95, 0, .ifCond .lt 31, 3, 0, 0, []), (98, 0, .aload_n 0, 1, 0, 0, []), (99, 0, .getfield 15, 3, 7, 9, [2, 0, 1084]), (102, 0, .iload_n 1, 1, 0, 0, []), (103, 0, .iaload, 1, 0, 0, []), (104, 0, .aload_n 0, 1, 0, 0, []), (105, 0, .getfield 142, 3, 7, 3, [0, 0, 1072]), (108, 0, .if_icmp .ge 18, 3, 0, 0, []), (111, 0, .aload_n 0, 1, 0, 0, []), (112, 0, .getfield 9, 3, 7, 8, [2, 0, 1082]), (115, 0, .aload_n 0, 1, 0, 0, []), (116, 0, .getfield 15, 3, 7, 9, [2, 0, 1084]), (119, 0, .iload_n 1, 1, 0, 0, []), (120, 0, .iaload, 1, 0, 0, []), (121, 0, .iaload, 1, 0, 0, []), (122, 0, .iconst 3, 1, 0, 0, []), (123, 0, .if_icmp .eq 5, 3, 0, 0, []), (126, 0, .iconst 5, 1, 0, 0, []), (127, 0, .ireturn, 1, 0, 0, []), (128, 0, .aload_n 0, 1, 0, 0, []), (129, 0, .aload_n 0, 1, 0, 0, []), (130, 0, .getfield 28, 3, 7, 13, [2, 0, 1092]), (133, 0, .iload_n 1, 1, 0, 0, []), (134, 0, .laload, 1, 0, 0, []), (135, 0, .ldc2_w 136, 3, 24, 0, [5220]), (138, 0, .ldiv, 1, 0, 0, []), (139, 0, .l2i, 1, 0, 0, []), (140, 0, .putfield 145, 3, 7, 4, [0, 0, 1074]), (143, 0, .iconst 0, 1, 0, 0, []), (144, 0, .istore_n 2, 1, 0, 0, []), (145, 4, .iload_n 2, 1, 0, 0, []), (146, 0, .aload_n 0, 1, 0, 0, []), (147, 0, .getfield 145, 3, 7, 4, [0, 0, 1074]), (150, 0, .if_icmp .ge 122, 3, 0, 0, []), (153, 0, .aload_n 0, 1, 0, 0, []), (154, 0, .getfield 21, 3, 7, 11, [2, 0, 1087]), (157, 0, .iload_n 1, 1, 0, 0, []), (158, 0, .iaload, 1, 0, 0, []), (159, 0, .i2l, 1, 0, 0, []), (160, 0, .ldc2_w 136, 3, 24, 0, [5220]), (163, 0, .iload_n 2, 1, 0, 0, []), (164, 0, .i2l, 1, 0, 0, []), (165, 0, .lmul, 1, 0, 0, []), (166, 0, .ladd, 1, 0, 0, []), (167, 0, .lstore_n 3, 1, 0, 0, []), (168, 0, .aload_n 0, 1, 0, 0, []), (169, 0, .getfield 43, 3, 7, 18, [2, 0, 1103]), (172, 0, .iload_n 2, 1, 0, 0, []), (173, 0, .aload_n 0, 1, 0, 0, []), (174, 0, .lload_n 3, 1, 0, 0, []), (175, 0, .iconst 4, 1, 0, 0, []), (176, 0, .invokevirtual 112, 3, 11, 7, [3000]), (179, 0, .l2i, 1, 0, 0, []), (180, 0, .iastore, 1, 0, 0, []), (181, 0, .aload_n 0, 1, 0, 0, []), (182, 0, .getfield 37, 3, 7, 16, [2, 0, 1099]), (185, 0, .iload_n 2, 1, 0, 0, []), (186, 0, .aload_n 0, 1, 0, 0, []), (187, 0, .lload_n 3, 1, 0, 0, []), (188, 0, .ldc2_w 110, 3, 4, 0, [3053]), (191, 0, .ladd, 1, 0, 0, []), (192, 0, .iconst 1, 1, 0, 0, []), (193, 0, .invokevirtual 112, 3, 11, 7, [3000]), (196, 0, .l2i, 1, 0, 0, []), (197, 0, .iconst 4, 1, 0, 0, []), (198, 0, .ishr, 1, 0, 0, []), (199, 0, .iastore, 1, 0, 0, []), (200, 0, .aload_n 0, 1, 0, 0, []), (201, 0, .getfield 40, 3, 7, 17, [2, 0, 1101]), (204, 0, .iload_n 2, 1, 0, 0, []), (205, 0, .aload_n 0, 1, 0, 0, []), (206, 0, .lload_n 3, 1, 0, 0, []), (207, 0, .ldc2_w 184, 3, 6, 0, [6001]), (210, 0, .ladd, 1, 0, 0, []), (211, 0, .iconst 2, 1, 0, 0, []), (212, 0, .invokevirtual 112, 3, 11, 7, [3000]), (215, 0, .l2i, 1, 0, 0, []), (216, 0, .iastore, 1, 0, 0, []), (217, 0, .aload_n 0, 1, 0, 0, []), (218, 0, .getfield 46, 3, 7, 19, [2, 0, 1104]), (221, 0, .iload_n 2, 1, 0, 0, []), (222, 0, .aload_n 0, 1, 0, 0, []), (223, 0, .lload_n 3, 1, 0, 0, []), (224, 0, .ldc2_w 176, 3, 8, 0, [5229]), (227, 0, .ladd, 1, 0, 0, []), (228, 0, .bipush 8, 2, 0, 0, []), (230, 0, .invokevirtual 112, 3, 11, 7, [3000]), (233, 0, .lastore, 1, 0, 0, []), (234, 0, .aload_n 0, 1, 0, 0, []), (235, 0, .getfield 49, 3, 7, 20, [2, 0, 1107]), (238, 0, .iload_n 2, 1, 0, 0, []), (239, 0, .aload_n 0, 1, 0, 0, []), (240, 0, .lload_n 3, 1, 0, 0, []), (241, 0, .ldc2_w 118, 3, 16, 0, [5211]), (244, 0, .ladd, 1, 0, 0, []), (245, 0, .bipush 8, 2, 0, 0, []), (247, 0, .invokevirtual 112, 3, 11, 7, [3000]), (250, 0, .lastore, 1, 0, 0, []), (251, 0, .iload_n 2, 1, 0, 0, []), (252, 0, .ifCond .le 14, 3, 0, 0, []), (255, 0, .aload_n 0, 1, 0, 0, []), (256, 0, .iload_n 2, 1, 0, 0, []), (257, 0, .invokevirtual 186, 3, 146, 7, [6002]), (260, 0, .ifCond .ne 6, 3, 0, 0, []), (263, 0, .bipush 6, 2, 0, 0, []), (265, 0, .ireturn, 1, 0, 0, []), (266, 5, .iinc 2 1, 3, 0, 0, []), (269, 0, .goto (-124), 3, 0, 0, []), (272, 0, .iconst 0, 1, 0, 0, []), (273, 0, .ireturn, 1, 0, 0, [])]
def m_Part_symbols : List aT := [(0, [(0, 2)], []), (2, [(0, 2), (1, 0)], []), (37, [(0, 2), (1, 0)], []), (145, [(0, 2), (1, 0), (2, 0)], []), (266, [(0, 2), (1, 0), (2, 0)], [])]
def B_Part_symbols_0 (X : Nat → List Int → AMem → Prop) (Q : Int → AMem → Prop) (x0 : Int) (σ : AMem) : Prop :=
  X 1 [x0, 0] σ
def B_Part_symbols_1 (X : Nat → List Int → AMem → Prop) (Q : Int → AMem → Prop) (x0 x1 : Int) (σ : AMem) : Prop :=
  (if ly_k x0 = 27 then (if x1 < (am_rd GR σ x0 3) then
  (if ly_k x0 = 27 then (if ly_k (am_rd GR σ x0 8) = 1 then 0 ≤ x1 ∧ x1 < ly_l (am_rd GR σ x0 8) ∧ (if (σ (am_rd GR σ x0 8) x1) = 2 then
    (if ly_k x0 = 27 then (if (am_rd GR σ x0 5) < 0 then
      (if ly_k x0 = 27 then (if ly_fin x0 5 = 0 then am_let (am_upd σ x0 5 x1) (fun σ2 => X 2 [x0, x1] σ2) else False) else False)
      else
      Q 5 σ) else False)
    else
    X 2 [x0, x1] σ) else False) else False)
  else
  (if ly_k x0 = 27 then (if (am_rd GR σ x0 5) < 0 then
    Q 0 σ
    else
    (if ly_k x0 = 27 then (if ly_k x0 = 27 then (if ly_k (am_rd GR σ x0 13) = 4 then 0 ≤ (am_rd GR σ x0 5) ∧ (am_rd GR σ x0 5) < ly_l (am_rd GR σ x0 13) ∧ (0 : Int) < 24 ∧ (if ((σ (am_rd GR σ x0 13) (am_rd GR σ x0 5)).tmod 24) = 0 then
      (if ly_k x0 = 27 then (if ly_k (am_rd GR σ x0 13) = 4 then 0 ≤ (am_rd GR σ x0 5) ∧ (am_rd GR σ x0 5) < ly_l (am_rd GR σ x0 13) ∧ (0 : Int) < 24 ∧ (if 64 < ((σ (am_rd GR σ x0 13) (am_rd GR σ x0 5)).tdiv 24) then
        Q 5 σ
        else
        (if ly_k x0 = 27 then (if ly_k (am_rd GR σ x0 9) = 1 then 0 ≤ (am_rd GR σ x0 5) ∧ (am_rd GR σ x0 5) < ly_l (am_rd GR σ x0 9) ∧ (if (σ (am_rd GR σ x0 9) (am_rd GR σ x0 5)) < 0 then
          Q 5 σ
          else
          (if ly_k x0 = 27 then (if ly_k (am_rd GR σ x0 9) = 1 then 0 ≤ (am_rd GR σ x0 5) ∧ (am_rd GR σ x0 5) < ly_l (am_rd GR σ x0 9) ∧ (if ly_k x0 = 27 then (if (σ (am_rd GR σ x0 9) (am_rd GR σ x0 5)) < (am_rd GR σ x0 3) then
            (if ly_k x0 = 27 then (if ly_k x0 = 27 then (if ly_k (am_rd GR σ x0 9) = 1 then 0 ≤ (am_rd GR σ x0 5) ∧ (am_rd GR σ x0 5) < ly_l (am_rd GR σ x0 9) ∧ (if ly_k (am_rd GR σ x0 8) = 1 then 0 ≤ (σ (am_rd GR σ x0 9) (am_rd GR σ x0 5)) ∧ (σ (am_rd GR σ x0 9) (am_rd GR σ x0 5)) < ly_l (am_rd GR σ x0 8) ∧ (if (σ (am_rd GR σ x0 8) (σ (am_rd GR σ x0 9) (am_rd GR σ x0 5))) = 3 then
              (if ly_k x0 = 27 then (if ly_k (am_rd GR σ x0 13) = 4 then 0 ≤ (am_rd GR σ x0 5) ∧ (am_rd GR σ x0 5) < ly_l (am_rd GR σ x0 13) ∧ (0 : Int) < 24 ∧ (if ly_k x0 = 27 then (if ly_fin x0 4 = 0 then am_let (am_upd σ x0 4 (w32 ((σ (am_rd GR σ x0 13) (am_rd GR σ x0 5)).tdiv 24))) (fun σ1 => X 3 [x0, (am_rd GR σ x0 5), 0] σ1) else False) else False) else False) else False)
              else
              Q 5 σ) else False) else False) else False) else False)
            else
            Q 5 σ) else False) else False) else False)) else False) else False)) else False) else False)
      else
      Q 5 σ) else False) else False) else False)) else False)) else False)
def B_Part_symbols_2 (X : Nat → List Int → AMem → Prop) (Q : Int → AMem → Prop) (x0 x1 : Int) (σ : AMem) : Prop :=
  am_r32 (x1 + 1) ∧ X 1 [x0, (x1 + 1)] σ
def B_Part_symbols_3 (X : Nat → List Int → AMem → Prop) (Q : Int → AMem → Prop) (x0 x1 x2 : Int) (σ : AMem) : Prop :=
  (if ly_k x0 = 27 then (if x2 < (am_rd GR σ x0 4) then
  (if ly_k x0 = 27 then (if ly_k (am_rd GR σ x0 11) = 1 then 0 ≤ x1 ∧ x1 < ly_l (am_rd GR σ x0 11) ∧ am_let (w64 ((σ (am_rd GR σ x0 11) x1) + (w64 (24 * x2)))) (fun y1 => (if ly_k x0 = 27 then (if ly_k x0 = 27 then T_Part_number [x0, y1, 4] σ (fun r2 σ3 => (if ly_k (am_rd GR σ x0 18) = 1 then 0 ≤ x2 ∧ x2 < ly_l (am_rd GR σ x0 18) ∧ am_let (am_upd σ3 (am_rd GR σ x0 18) x2 (w32 r2)) (fun σ4 => (if ly_k x0 = 27 then (if ly_k x0 = 27 then T_Part_number [x0, (w64 (y1 + 4)), 1] σ4 (fun r5 σ6 => (if ly_k (am_rd GR σ4 x0 16) = 1 then 0 ≤ x2 ∧ x2 < ly_l (am_rd GR σ4 x0 16) ∧ am_let (am_upd σ6 (am_rd GR σ4 x0 16) x2 (i_shr (w32 r5) 4)) (fun σ7 => (if ly_k x0 = 27 then (if ly_k x0 = 27 then T_Part_number [x0, (w64 (y1 + 6)), 2] σ7 (fun r8 σ9 => (if ly_k (am_rd GR σ7 x0 17) = 1 then 0 ≤ x2 ∧ x2 < ly_l (am_rd GR σ7 x0 17) ∧ am_let (am_upd σ9 (am_rd GR σ7 x0 17) x2 (w32 r8)) (fun σ10 => (if ly_k x0 = 27 then (if ly_k x0 = 27 then T_Part_number [x0, (w64 (y1 + 8)), 8] σ10 (fun r11 σ12 => (if ly_k (am_rd GR σ10 x0 19) = 4 then 0 ≤ x2 ∧ x2 < ly_l (am_rd GR σ10 x0 19) ∧ am_let (am_upd σ12 (am_rd GR σ10 x0 19) x2 r11) (fun σ13 => (if ly_k x0 = 27 then (if ly_k x0 = 27 then T_Part_number [x0, (w64 (y1 + 16)), 8] σ13 (fun r14 σ15 => (if ly_k (am_rd GR σ13 x0 20) = 4 then 0 ≤ x2 ∧ x2 < ly_l (am_rd GR σ13 x0 20) ∧ am_let (am_upd σ15 (am_rd GR σ13 x0 20) x2 r14) (fun σ16 => (if 0 < x2 then
    (if ly_k x0 = 27 then T_Part_isSymbol [x0, x2] σ16 (fun r17 σ18 => (if r17 = 0 then
      Q 6 σ18
      else
      X 4 [x0, x1, x2] σ18)) else False)
    else
    X 4 [x0, x1, x2] σ16)) else False)) else False) else False)) else False)) else False) else False)) else False)) else False) else False)) else False)) else False) else False)) else False)) else False) else False)) else False) else False)
  else
  Q 0 σ) else False)
def B_Part_symbols_4 (X : Nat → List Int → AMem → Prop) (Q : Int → AMem → Prop) (x0 x1 x2 : Int) (σ : AMem) : Prop :=
  am_r32 (x2 + 1) ∧ X 3 [x0, x1, (x2 + 1)] σ
def B_Part_symbols : (Nat → List Int → AMem → Prop) → (Int → AMem → Prop) → Nat → List Int → AMem → Prop := fun X Q j v σ => am_sel [(am_v1 (fun x0 σ => B_Part_symbols_0 X Q x0 σ)), (am_v2 (fun x0 x1 σ => B_Part_symbols_1 X Q x0 x1 σ)), (am_v2 (fun x0 x1 σ => B_Part_symbols_2 X Q x0 x1 σ)), (am_v3 (fun x0 x1 x2 σ => B_Part_symbols_3 X Q x0 x1 x2 σ)), (am_v3 (fun x0 x1 x2 σ => B_Part_symbols_4 X Q x0 x1 x2 σ))] j v σ
def T_Part_symbols : List Int → AMem → (Int → AMem → Prop) → Prop := am_T B_Part_symbols
abbrev y_Part_symbols : MethodName := ⟨"LinkHouse$Part", "symbols", "()I"⟩
def a_Part_symbols : AC := (147, (y_Part_symbols, prog_6_method_11_code, 5, (Option.some Jvm.ClassFile.FieldType.int)), [2], 0, false, { frames := 3, cells := 0, slots := 0, locals := 99 }, T_Part_symbols)
set_option maxRecDepth 100000 in
theorem ms_Part_symbols : am_MSp a_Part_symbols := am_ms_v 6000 8 5239 104015 7 rfl (by decide +kernel)
abbrev k_Part_symbols : List AC := [a_Part_number, a_Part_isSymbol]
set_option maxRecDepth 100000 in
theorem s_Part_symbols : (am_chkR { frames := 3, cells := 0, slots := 0, locals := 99 } k_Part_symbols && am_chkN c_Part_symbols { frames := 3, cells := 0, slots := 0, locals := 99 } && c_Part_symbols.all (am_chk "LinkHouse$Part" prog_6_method_11_code 5 (Option.some Jvm.ClassFile.FieldType.int) k_Part_symbols) && c_Part_symbols.all (am_chkL m_Part_symbols) && decide (m_Part_symbols[0]? = some (0, am_argp 0 [2], [])) && decide (am_argn [2] ≤ 5)) = true := by decide +kernel
set_option maxHeartbeats 150000 in
set_option maxRecDepth 100000 in
theorem h_Part_symbols : ∀ X Q j v σ, B_Part_symbols X Q j v σ → am_at GR k_Part_symbols c_Part_symbols m_Part_symbols X Q 168 j v σ := fun X Q => am_sel_all (P := fun j v σ => am_at GR k_Part_symbols c_Part_symbols m_Part_symbols X Q 168 j v σ) (⟨(am_v1_of (fun x0 σ h => h)), ⟨(am_v2_of (fun x0 x1 σ h => h)), ⟨(am_v2_of (fun x0 x1 σ h => h)), ⟨(am_v3_of (fun x0 x1 x2 σ h => h)), ⟨(am_v3_of (fun x0 x1 x2 σ h => h)), trivial⟩⟩⟩⟩⟩)
set_option maxRecDepth 100000 in
theorem S_Part_symbols (l : Launch) (w : AW) : am_S l w GR a_Part_symbols := am_sound (rt := 0) (cal := k_Part_symbols) 147 y_Part_symbols prog_6_method_11_code 5 (Option.some Jvm.ClassFile.FieldType.int) [2] false { frames := 3, cells := 0, slots := 0, locals := 99 } B_Part_symbols "LinkHouse$Part" c_Part_symbols m_Part_symbols 168 ms_Part_symbols (by decide +kernel) rfl rfl (am_cal (S_Part_number l w) (am_cal (S_Part_isSymbol l w) (fun _ h => absurd h List.not_mem_nil))) s_Part_symbols h_Part_symbols
set_option maxRecDepth 100000 in
theorem of_Part_symbols {Q : Int → AMem → Prop} {x0 : Int} {σ : AMem} (h : ∀ X : Nat → List Int → AMem → Prop, (∀ (x0 : Int) (σ : AMem), B_Part_symbols_0 X Q x0 σ → X 0 [x0] σ) → (∀ (x0 x1 : Int) (σ : AMem), B_Part_symbols_1 X Q x0 x1 σ → X 1 [x0, x1] σ) → (∀ (x0 x1 : Int) (σ : AMem), B_Part_symbols_2 X Q x0 x1 σ → X 2 [x0, x1] σ) → (∀ (x0 x1 x2 : Int) (σ : AMem), B_Part_symbols_3 X Q x0 x1 x2 σ → X 3 [x0, x1, x2] σ) → (∀ (x0 x1 x2 : Int) (σ : AMem), B_Part_symbols_4 X Q x0 x1 x2 σ → X 4 [x0, x1, x2] σ) → X 0 [x0] σ) : T_Part_symbols [x0] σ Q := fun X hX => h X (fun x0 σ h => hX 0 [x0] σ h) (fun x0 x1 σ h => hX 1 [x0, x1] σ h) (fun x0 x1 σ h => hX 2 [x0, x1] σ h) (fun x0 x1 x2 σ h => hX 3 [x0, x1, x2] σ h) (fun x0 x1 x2 σ h => hX 4 [x0, x1, x2] σ h)
def c_Part_mark : List aE := [(0, 1, .aload_n 0, 1, 0, 0, []), (1, 0, .lload_n 1, 1, 0, 0, []), (2, 0, .bipush 8, 2, 0, 0, []), (4, 0, .invokevirtual 112, 3, 11, 7, [3000]), (7, 0, .l2i, 1, 0, 0, []), (8, 0, .istore 4, 2, 0, 0, []), (10, 0, .aload_n 0, 1, 0, 0, []), (11, 0, .lload_n 1, 1, 0, 0, []), (12, 0, .ldc2_w 176, 3, 8, 0, [5229]), (15, 0, .ladd, 1, 0, 0, []), (16, 0, .iconst 4, 1, 0, 0, []), (17, 0, .invokevirtual 112, 3, 11, 7, [3000]), (20, 0, .l2i, 1, 0, 0, []), (21, 0, .invokestatic 214, 3, 82, 0, [6014]), (24, 0, .istore 5, 2, 0, 0, []), (26, 0, .iconst 0, 1, 0, 0, []), (27, 0, .istore 6, 2, 0, 0, []), (29, 2, .iload 6, 2, 0, 0, []), (31, 0, .iload 5, 2, 0, 0, []), (33, 0, .if_icmp .ge 39, 3, 0, 0, []), (36, 0, .iload_n 3, 1, 0, 0, []), (37, 0, .ifCond .eq 18, 3, 0, 0, []), (40, 0, .aload_n 0, 1, 0, 0, []), (41, 0, .getfield 81, 3, 7, 29, [2, 0, 1124]), (44, 0, .iload 4, 2, 0, 0, []), (46, 0, .iload 6, 2, 0, 0, []), (48, 0, .iadd, 1, 0, 0, []), (49, 0, .baload, 1, 3, 0, []), (50, 0, .ifCond .eq 5, 3, 0, 0, []), (53, 0, .iconst 0, 1, 0, 0, []), (54, 0, .ireturn, 1, 1, 0, []), (55, 3, .aload_n 0, 1, 0, 0, []), (56, 0, .getfield 81, 3, 7, 29, [2, 0, 1124]), (59, 0, .iload 4, 2, 0, 0, []), (61, 0, .iload 6, 2, 0, 0, []), (63, 0, .iadd, 1, 0, 0, []), (64, 0, .iconst 1, 1, 0, 0, []), (65, 0, .bastore, 1, 3, 0, []), (66, 0, .iinc 6 1, 3, 0, 0, []), (69, 0, .goto (-40), 3, 0, 0, []), (72, 0, .iconst 1, 1, 0, 0, []), (73, 0, .ireturn, 1, 1, 0, [])]
def m_Part_mark : List aT := [(0, [(0, 2), (1, 1), (3, 0)], []), (29, [(0, 2), (3, 0), (4, 0), (5, 0), (6, 0)], []), (55, [(0, 2), (3, 0), (4, 0), (5, 0), (6, 0)], [])]
def B_Part_mark_0 (X : Nat → List Int → AMem → Prop) (Q : Int → AMem → Prop) (x0 x1 x3 : Int) (σ : AMem) : Prop :=
  (if ly_k x0 = 27 then T_Part_number [x0, x1, 8] σ (fun r1 σ2 => (if ly_k x0 = 27 then T_Part_number [x0, (w64 (x1 + 8)), 4] σ2 (fun r3 σ4 => T_Part_width [(w32 r3)] σ4 (fun r5 σ6 => X 1 [x0, x3, (w32 r1), r5, 0] σ6)) else False)) else False)
def B_Part_mark_1 (X : Nat → List Int → AMem → Prop) (Q : Int → AMem → Prop) (x0 x3 x4 x5 x6 : Int) (σ : AMem) : Prop :=
  (if x6 < x5 then
  (if x3 = 0 then
    X 2 [x0, x3, x4, x5, x6] σ
    else
    (if ly_k x0 = 27 then am_r32 (x4 + x6) ∧ (if ly_k (am_rd GR σ x0 29) = 3 then 0 ≤ (x4 + x6) ∧ (x4 + x6) < ly_l (am_rd GR σ x0 29) ∧ (if (σ (am_rd GR σ x0 29) (x4 + x6)) = 0 then
      X 2 [x0, x3, x4, x5, x6] σ
      else
      Q 0 σ) else False) else False))
  else
  Q 1 σ)
def B_Part_mark_2 (X : Nat → List Int → AMem → Prop) (Q : Int → AMem → Prop) (x0 x3 x4 x5 x6 : Int) (σ : AMem) : Prop :=
  (if ly_k x0 = 27 then am_r32 (x4 + x6) ∧ (if ly_k (am_rd GR σ x0 29) = 3 then 0 ≤ (x4 + x6) ∧ (x4 + x6) < ly_l (am_rd GR σ x0 29) ∧ am_let (am_upd σ (am_rd GR σ x0 29) (x4 + x6) 1) (fun σ1 => am_r32 (x6 + 1) ∧ X 1 [x0, x3, x4, x5, (x6 + 1)] σ1) else False) else False)
def B_Part_mark : (Nat → List Int → AMem → Prop) → (Int → AMem → Prop) → Nat → List Int → AMem → Prop := fun X Q j v σ => am_sel [(am_v3 (fun x0 x1 x3 σ => B_Part_mark_0 X Q x0 x1 x3 σ)), (am_v5 (fun x0 x3 x4 x5 x6 σ => B_Part_mark_1 X Q x0 x3 x4 x5 x6 σ)), (am_v5 (fun x0 x3 x4 x5 x6 σ => B_Part_mark_2 X Q x0 x3 x4 x5 x6 σ))] j v σ
def T_Part_mark : List Int → AMem → (Int → AMem → Prop) → Prop := am_T B_Part_mark
abbrev y_Part_mark : MethodName := ⟨"LinkHouse$Part", "mark", "(JZ)Z"⟩
def a_Part_mark : AC := (148, (y_Part_mark, prog_6_method_19_code, 7, (Option.some Jvm.ClassFile.FieldType.boolean)), [2, 1, 0], 0, false, { frames := 2, cells := 0, slots := 0, locals := 56 }, T_Part_mark)
set_option maxRecDepth 100000 in
theorem ms_Part_mark : am_MSp a_Part_mark := am_ms_v 6013 8 6012 105002 7 rfl (by decide +kernel)
abbrev k_Part_mark : List AC := [a_Part_number, a_Part_width]
set_option maxRecDepth 100000 in
theorem s_Part_mark : (am_chkR { frames := 2, cells := 0, slots := 0, locals := 56 } k_Part_mark && am_chkN c_Part_mark { frames := 2, cells := 0, slots := 0, locals := 56 } && c_Part_mark.all (am_chk "LinkHouse$Part" prog_6_method_19_code 7 (Option.some Jvm.ClassFile.FieldType.boolean) k_Part_mark) && c_Part_mark.all (am_chkL m_Part_mark) && decide (m_Part_mark[0]? = some (0, am_argp 0 [2, 1, 0], [])) && decide (am_argn [2, 1, 0] ≤ 7)) = true := by decide +kernel
set_option maxHeartbeats 150000 in
set_option maxRecDepth 100000 in
theorem h_Part_mark : ∀ X Q j v σ, B_Part_mark X Q j v σ → am_at GR k_Part_mark c_Part_mark m_Part_mark X Q 47 j v σ := fun X Q => am_sel_all (P := fun j v σ => am_at GR k_Part_mark c_Part_mark m_Part_mark X Q 47 j v σ) (⟨(am_v3_of (fun x0 x1 x3 σ h => h)), ⟨(am_v5_of (fun x0 x3 x4 x5 x6 σ h => h)), ⟨(am_v5_of (fun x0 x3 x4 x5 x6 σ h => h)), trivial⟩⟩⟩)
set_option maxRecDepth 100000 in
theorem S_Part_mark (l : Launch) (w : AW) : am_S l w GR a_Part_mark := am_sound (rt := 0) (cal := k_Part_mark) 148 y_Part_mark prog_6_method_19_code 7 (Option.some Jvm.ClassFile.FieldType.boolean) [2, 1, 0] false { frames := 2, cells := 0, slots := 0, locals := 56 } B_Part_mark "LinkHouse$Part" c_Part_mark m_Part_mark 47 ms_Part_mark (by decide +kernel) rfl rfl (am_cal (S_Part_number l w) (am_cal (S_Part_width l w) (fun _ h => absurd h List.not_mem_nil))) s_Part_mark h_Part_mark
set_option maxRecDepth 100000 in
theorem of_Part_mark {Q : Int → AMem → Prop} {x0 x1 x3 : Int} {σ : AMem} (h : ∀ X : Nat → List Int → AMem → Prop, (∀ (x0 x1 x3 : Int) (σ : AMem), B_Part_mark_0 X Q x0 x1 x3 σ → X 0 [x0, x1, x3] σ) → (∀ (x0 x3 x4 x5 x6 : Int) (σ : AMem), B_Part_mark_1 X Q x0 x3 x4 x5 x6 σ → X 1 [x0, x3, x4, x5, x6] σ) → (∀ (x0 x3 x4 x5 x6 : Int) (σ : AMem), B_Part_mark_2 X Q x0 x3 x4 x5 x6 σ → X 2 [x0, x3, x4, x5, x6] σ) → X 0 [x0, x1, x3] σ) : T_Part_mark [x0, x1, x3] σ Q := fun X hX => h X (fun x0 x1 x3 σ h => hX 0 [x0, x1, x3] σ h) (fun x0 x3 x4 x5 x6 σ h => hX 1 [x0, x3, x4, x5, x6] σ h) (fun x0 x3 x4 x5 x6 σ h => hX 2 [x0, x3, x4, x5, x6] σ h)
def c_Part_sites : List aE := [(0, 1, .aload_n 0, 1, 0, 0, []), (1, 0, .getfield 28, 3, 7, 13, [2, 0, 1092]), (4, 0, .iload_n 1, 1, 0, 0, []), (5, 0, .laload, 1, 0, 0, []), (6, 0, .ldc2_w 136, 3, 24, 0, [5220]), (9, 0, .lrem, 1, 0, 0, []), (10, 0, .lconst 0, 1, 0, 0, []), (11, 0, .lcmp, 1, 0, 0, []), (12, 0, .ifCond .ne 23, 3, 0, 0, []), (15, 0, .aload_n 0, 1, 0, 0, []), (16, 0, .getfield 148, 3, 7, 5, [0, 0, 1076]), (19, 0, .ifCond .lt 16, 3, 0, 0, []), (22, 0, .aload_n 0, 1, 0, 0, []), (23, 0, .getfield 15, 3, 7, 9, [2, 0, 1084]), (26, 0, .iload_n 1, 1, 0, 0, []), (27, 0, .iaload, 1, 0, 0, []), (28, 0, .aload_n 0, 1, 0, 0, []), (29, 0, .getfield 148, 3, 7, 5, [0, 0, 1076]), (32, 0, .if_icmp .eq 5, 3, 0, 0, []), (35, 0, .iconst 0, 1, 0, 0, []), (36, 0, .ireturn, 1, 1, 0, []), (37, 0, .aload_n 0, 1, 0, 0, []), (38, 0, .getfield 18, 3, 7, 10, [2, 0, 1085]), (41, 0, .iload_n 1, 1, 0, 0, []), (42, 0, .iaload, 1, 0, 0, []), (43, 0, .istore_n 2, 1, 0, 0, []), (44, 0, .iconst 0, 1, 0, 0, []), (45, 0, .istore_n 3, 1, 0, 0, []), (46, 2, .iload_n 3, 1, 0, 0, []), (47, 0, .sipush 16384, 3, 0, 0, []), (50, 0, .if_icmp .ge 16, 3, 0, 0, []), (53, 0, .aload_n 0, 1, 0, 0, []), (54, 0, .getfield 81, 3, 7, 29, [2, 0, 1124]), (57, 0, .iload_n 3, 1, 0, 0, []), (58, 0, .iconst 0, 1, 0, 0, []), (59, 0, .bastore, 1, 3, 0, []), (60, 0, .iinc 3 1, 3, 0, 0, []), (63, 0, .goto (-17), 3, 0, 0, []), (66, 0, .iconst 0, 1, 0, 0, []), (67, 0, .istore_n 3, 1, 0, 0, []), (68, 3, .iload_n 3, 1, 0, 0, []), (69, 0, .iload_n 1, 1, 0, 0, []), (70, 0, .if_icmp .ge 69, 3, 0, 0, []), (73, 0, .aload_n 0, 1, 0, 0, []), (74, 0, .iload_n 3, 1, 0, 0, []), (75, 0, .invokevirtual 167, 3, 39, 7, [3156]), (78, 0, .ifCond .eq 55, 3, 0, 0, []), (81, 0, .aload_n 0, 1, 0, 0, []), (82, 0, .getfield 18, 3, 7, 10, [2, 0, 1085]), (85, 0, .iload_n 3, 1, 0, 0, []), (86, 0, .iaload, 1, 0, 0, []), (87, 0, .iload_n 2, 1, 0, 0, []), (88, 0, .if_icmp .ne 45, 3, 0, 0, []), (91, 0, .lconst 0, 1, 0, 0, []), (92, 0, .lstore 4, 2, 0, 0, []), (94, 4, .lload 4, 2, 0, 0, []), (96, 0, .aload_n 0, 1, 0, 0, []), (97, 0, .getfield 28, 3, 7, 13, [2, 0, 1092]), (100, 0, .iload_n 3, 1, 0, 0, []), (101, 0, .laload, 1, 0, 0, []), (102, 0, .lcmp, 1, 0, 0, []), (103, 0, .ifCond .ge 30, 3, 0, 0, []), (106, 0, .aload_n 0, 1, 0, 0, []), (107, 0, .aload_n 0, 1, 0, 0, []), (108, 0, .getfield 21, 3, 7, 11, [2, 0, 1087]), (111, 0, .iload_n 3, 1, 0, 0, []), (112, 0, .iaload, 1, 0, 0, []), (113, 0, .i2l, 1, 0, 0, []), (114, 0, .lload 4, 2, 0, 0, []), (116, 0, .ladd, 1, 0, 0, []), (117, 0, .iconst 0, 1, 0, 0, []), (118, 0, .invokevirtual 208, 3, 148, 7, [6010]), (121, 0, .pop, 1, 0, 0, []), (122, 0, .lload 4, 2, 0, 0, []), (124, 0, .ldc2_w 136, 3, 24, 0, [5220]), (127, 0, .ladd, 1, 0, 0, []), (128, 0, .lstore 4, 2, 0, 0, []), (130, 0, .goto (-36), 3, 0, 0, []), (133, 5, .iinc 3 1, 3, 0, 0, []), (136, 0, .goto (-68), 3, 0, 0, []), (139, 0, .lconst 0, 1, 0, 0, []), (140, 0, .lstore_n 3, 1, 0, 0, []), (141, 6, .lload_n 3, 1, 0, 0, []), (142, 0, .aload_n 0, 1, 0, 0, []), (143, 0, .getfield 28, 3, 7, 13, [2, 0, 1092]), (146, 0, .iload_n 1, 1, 0, 0, []), (147, 0, .laload, 1, 0, 0, []), (148, 0, .lcmp, 1, 0, 0, []), (149, 0, .ifCond .ge 144, 3, 0, 0, []), (152, 0, .aload_n 0, 1, 0, 0, []), (153, 0, .getfield 21, 3, 7, 11, [2, 0, 1087]), (156, 0, .iload_n 1, 1, 0, 0, []), (157, 0, .iaload, 1, 0, 0, []), (158, 0, .i2l, 1, 0, 0, []), (159, 0, .lload_n 3, 1, 0, 0, []), (160, 0, .ladd, 1, 0, 0, []), (161, 0, .lstore 5, 2, 0, 0, []), (163, 0, .aload_n 0, 1, 0, 0, []), (164, 0, .lload 5, 2, 0, 0, []), (166, 0, .bipush 8, 2, 0, 0, []), (168, 0, .invokevirtual 112, 3, 11, 7, [3000]), (171, 0, .lstore 7, 2, 0, 0, []), (173, 0, .aload_n 0, 1, 0, 0, []), (174, 0, .lload 5, 2, 0, 0, []), (176, 0, .ldc2_w 212, 3, 12, 0, [6015]), (179, 0, .ladd, 1, 0, 0, []), (180, 0, .iconst 4, 1, 0, 0, []), (181, 0, .invokevirtual 112, 3, 11, 7, [3000]), (184, 0, .lstore 9, 2, 0, 0, []), (186, 0, .aload_n 0, 1, 0, 0, []), (187, 0, .lload 5, 2, 0, 0, []), (189, 0, .ldc2_w 176, 3, 8, 0, [5229]), (192, 0, .ladd, 1, 0, 0, []), (193, 0, .iconst 4, 1, 0, 0, []), (194, 0, .invokevirtual 112, 3, 11, 7, [3000]), (197, 0, .l2i, 1, 0, 0, []), (198, 0, .invokestatic 214, 3, 82, 0, [6014]), (201, 0, .istore 11, 2, 0, 0, []), (203, 0, .iload 11, 2, 0, 0, []), (205, 0, .ifCond .lt 65, 3, 0, 0, []), (208, 0, .lload 9, 2, 0, 0, []), (210, 0, .aload_n 0, 1, 0, 0, []), (211, 0, .getfield 145, 3, 7, 4, [0, 0, 1074]), (214, 0, .i2l, 1, 0, 0, []), (215, 0, .lcmp, 1, 0, 0, []), (216, 0, .ifCond .ge 54, 3, 0, 0, []), (219, 0, .iload 11, 2, 0, 0, []), (221, 0, .ifCond .le 51, 3, 0, 0, []), (224, 0, .lload 7, 2, 0, 0, []), (226, 0, .lconst 0, 1, 0, 0, []), (227, 0, .lcmp, 1, 0, 0, []), (228, 0, .ifCond .lt 42, 3, 0, 0, []), (231, 0, .lload 7, 2, 0, 0, []), (233, 0, .aload_n 0, 1, 0, 0, []), (234, 0, .getfield 28, 3, 7, 13, [2, 0, 1092]), (237, 0, .iload_n 2, 1, 0, 0, []), (238, 0, .laload, 1, 0, 0, []), (239, 0, .lcmp, 1, 0, 0, []), (240, 0, .ifCond .gt 30, 3, 0, 0, []), (243, 0, .iload 11, 2, 0, 0, []), (245, 0, .i2l, 1, 0, 0, []), (246, 0, .aload_n 0, 1, 0, 0, []), (247, 0, .getfield 28, 3, 7, 13, [2, 0, 1092]), (250, 0, .iload_n 2, 1, 0, 0, []), (251, 0, .laload, 1, 0, 0, []), (252, 0, .lload 7, 2, 0, 0, []), (254, 0, .lsub, 1, 0, 0, []), (255, 0, .lcmp, 1, 0, 0, []), (256, 0, .ifCond .gt 14, 3, 0, 0, []), (259, 0, .aload_n 0, 1, 0, 0, []), (260, 0, .getfield 9, 3, 7, 8, [2, 0, 1082]), (263, 0, .iload_n 2, 1, 0, 0, []), (264, 0, .iaload, 1, 0, 0, []), (265, 0, .bipush 8, 2, 0, 0, []), (267, 0, .if_icmp .ne 5, 3, 0, 0, []), (270, 0, .iconst 0, 1, 0, 0, []), (271, 0, .ireturn, 1, 1, 0, []), (272, 7, .aload_n 0, 1, 0, 0, []), (273, 0, .lload 5, 2, 0, 0, []), (275, 0, .iconst 1, 1, 0, 0, []), (276, 0, .invokevirtual 208, 3, 148, 7, [6010]), (279, 0, .ifCond .ne 5, 3, 0, 0, []), (282, 0, .iconst 0, 1, 0, 0, []), (283, 0, .ireturn, 1, 1, 0, []), (284, 0, .lload_n 3, 1, 0, 0, []), (285, 0, .ldc2_w 136, 3, 24, 0, [5220]), (288, 0, .ladd, 1, 0, 0, []), (289, 0, .lstore_n 3, 1, 0, 0, []), (290, 0, .goto (-149), 3, 0, 0, []), (293, 0, .iconst 1, 1, 0, 0, []), (294, 0, .ireturn, 1, 1, 0, [])]
def m_Part_sites : List aT := [(0, [(0, 2), (1, 0)], []), (46, [(0, 2), (1, 0), (2, 0), (3, 0)], []), (68, [(0, 2), (1, 0), (2, 0), (3, 0)], []), (94, [(0, 2), (1, 0), (2, 0), (3, 0), (4, 1)], []), (133, [(0, 2), (1, 0), (2, 0), (3, 0)], []), (141, [(0, 2), (1, 0), (2, 0), (3, 1)], []), (272, [(0, 2), (1, 0), (2, 0), (3, 1), (5, 1)], [])]
def B_Part_sites_0 (X : Nat → List Int → AMem → Prop) (Q : Int → AMem → Prop) (x0 x1 : Int) (σ : AMem) : Prop :=
  (if ly_k x0 = 27 then (if ly_k (am_rd GR σ x0 13) = 4 then 0 ≤ x1 ∧ x1 < ly_l (am_rd GR σ x0 13) ∧ (0 : Int) < 24 ∧ (if ((σ (am_rd GR σ x0 13) x1).tmod 24) = 0 then
  (if ly_k x0 = 27 then (if (am_rd GR σ x0 5) < 0 then
    Q 0 σ
    else
    (if ly_k x0 = 27 then (if ly_k (am_rd GR σ x0 9) = 1 then 0 ≤ x1 ∧ x1 < ly_l (am_rd GR σ x0 9) ∧ (if ly_k x0 = 27 then (if (σ (am_rd GR σ x0 9) x1) = (am_rd GR σ x0 5) then
      (if ly_k x0 = 27 then (if ly_k (am_rd GR σ x0 10) = 1 then 0 ≤ x1 ∧ x1 < ly_l (am_rd GR σ x0 10) ∧ X 1 [x0, x1, (σ (am_rd GR σ x0 10) x1), 0] σ else False) else False)
      else
      Q 0 σ) else False) else False) else False)) else False)
  else
  Q 0 σ) else False) else False)
def B_Part_sites_1 (X : Nat → List Int → AMem → Prop) (Q : Int → AMem → Prop) (x0 x1 x2 x3 : Int) (σ : AMem) : Prop :=
  (if x3 < 16384 then
  (if ly_k x0 = 27 then (if ly_k (am_rd GR σ x0 29) = 3 then 0 ≤ x3 ∧ x3 < ly_l (am_rd GR σ x0 29) ∧ am_let (am_upd σ (am_rd GR σ x0 29) x3 0) (fun σ1 => am_r32 (x3 + 1) ∧ X 1 [x0, x1, x2, (x3 + 1)] σ1) else False) else False)
  else
  X 2 [x0, x1, x2, 0] σ)
def B_Part_sites_2 (X : Nat → List Int → AMem → Prop) (Q : Int → AMem → Prop) (x0 x1 x2 x3 : Int) (σ : AMem) : Prop :=
  (if x3 < x1 then
  (if ly_k x0 = 27 then T_Part_isSites [x0, x3] σ (fun r1 σ2 => (if r1 = 0 then
    X 4 [x0, x1, x2, x3] σ2
    else
    (if ly_k x0 = 27 then (if ly_k (am_rd GR σ2 x0 10) = 1 then 0 ≤ x3 ∧ x3 < ly_l (am_rd GR σ2 x0 10) ∧ (if (σ2 (am_rd GR σ2 x0 10) x3) = x2 then
      X 3 [x0, x1, x2, x3, 0] σ2
      else
      X 4 [x0, x1, x2, x3] σ2) else False) else False))) else False)
  else
  X 5 [x0, x1, x2, 0] σ)
def B_Part_sites_3 (X : Nat → List Int → AMem → Prop) (Q : Int → AMem → Prop) (x0 x1 x2 x3 x4 : Int) (σ : AMem) : Prop :=
  (if ly_k x0 = 27 then (if ly_k (am_rd GR σ x0 13) = 4 then 0 ≤ x3 ∧ x3 < ly_l (am_rd GR σ x0 13) ∧ (if x4 < (σ (am_rd GR σ x0 13) x3) then
  (if ly_k x0 = 27 then (if ly_k (am_rd GR σ x0 11) = 1 then 0 ≤ x3 ∧ x3 < ly_l (am_rd GR σ x0 11) ∧ (if ly_k x0 = 27 then T_Part_mark [x0, (w64 ((σ (am_rd GR σ x0 11) x3) + x4)), 0] σ (fun r1 σ2 => X 3 [x0, x1, x2, x3, (w64 (x4 + 24))] σ2) else False) else False) else False)
  else
  X 4 [x0, x1, x2, x3] σ) else False) else False)
def B_Part_sites_4 (X : Nat → List Int → AMem → Prop) (Q : Int → AMem → Prop) (x0 x1 x2 x3 : Int) (σ : AMem) : Prop :=
  am_r32 (x3 + 1) ∧ X 2 [x0, x1, x2, (x3 + 1)] σ
def B_Part_sites_5 (X : Nat → List Int → AMem → Prop) (Q : Int → AMem → Prop) (x0 x1 x2 x3 : Int) (σ : AMem) : Prop :=
  (if ly_k x0 = 27 then (if ly_k (am_rd GR σ x0 13) = 4 then 0 ≤ x1 ∧ x1 < ly_l (am_rd GR σ x0 13) ∧ (if x3 < (σ (am_rd GR σ x0 13) x1) then
  (if ly_k x0 = 27 then (if ly_k (am_rd GR σ x0 11) = 1 then 0 ≤ x1 ∧ x1 < ly_l (am_rd GR σ x0 11) ∧ am_let (w64 ((σ (am_rd GR σ x0 11) x1) + x3)) (fun y1 => (if ly_k x0 = 27 then T_Part_number [x0, y1, 8] σ (fun r2 σ3 => (if ly_k x0 = 27 then T_Part_number [x0, (w64 (y1 + 12)), 4] σ3 (fun r4 σ5 => (if ly_k x0 = 27 then T_Part_number [x0, (w64 (y1 + 8)), 4] σ5 (fun r6 σ7 => T_Part_width [(w32 r6)] σ7 (fun r8 σ9 => (if r8 < 0 then
    Q 0 σ9
    else
    (if ly_k x0 = 27 then (if r4 < (am_rd GR σ9 x0 4) then
      (if 0 < r8 then
        (if r2 < 0 then
          Q 0 σ9
          else
          (if ly_k x0 = 27 then (if ly_k (am_rd GR σ9 x0 13) = 4 then 0 ≤ x2 ∧ x2 < ly_l (am_rd GR σ9 x0 13) ∧ (if (σ9 (am_rd GR σ9 x0 13) x2) < r2 then
            Q 0 σ9
            else
            (if ly_k x0 = 27 then (if ly_k (am_rd GR σ9 x0 13) = 4 then 0 ≤ x2 ∧ x2 < ly_l (am_rd GR σ9 x0 13) ∧ (if (w64 ((σ9 (am_rd GR σ9 x0 13) x2) - r2)) < r8 then
              Q 0 σ9
              else
              (if ly_k x0 = 27 then (if ly_k (am_rd GR σ9 x0 8) = 1 then 0 ≤ x2 ∧ x2 < ly_l (am_rd GR σ9 x0 8) ∧ (if (σ9 (am_rd GR σ9 x0 8) x2) = 8 then
                Q 0 σ9
                else
                X 6 [x0, x1, x2, x3, y1] σ9) else False) else False)) else False) else False)) else False) else False))
        else
        X 6 [x0, x1, x2, x3, y1] σ9)
      else
      Q 0 σ9) else False)))) else False)) else False)) else False)) else False) else False)
  else
  Q 1 σ) else False) else False)
def B_Part_sites_6 (X : Nat → List Int → AMem → Prop) (Q : Int → AMem → Prop) (x0 x1 x2 x3 x5 : Int) (σ : AMem) : Prop :=
  (if ly_k x0 = 27 then T_Part_mark [x0, x5, 1] σ (fun r1 σ2 => (if r1 = 0 then
  Q 0 σ2
  else
  X 5 [x0, x1, x2, (w64 (x3 + 24))] σ2)) else False)
def B_Part_sites : (Nat → List Int → AMem → Prop) → (Int → AMem → Prop) → Nat → List Int → AMem → Prop := fun X Q j v σ => am_sel [(am_v2 (fun x0 x1 σ => B_Part_sites_0 X Q x0 x1 σ)), (am_v4 (fun x0 x1 x2 x3 σ => B_Part_sites_1 X Q x0 x1 x2 x3 σ)), (am_v4 (fun x0 x1 x2 x3 σ => B_Part_sites_2 X Q x0 x1 x2 x3 σ)), (am_v5 (fun x0 x1 x2 x3 x4 σ => B_Part_sites_3 X Q x0 x1 x2 x3 x4 σ)), (am_v4 (fun x0 x1 x2 x3 σ => B_Part_sites_4 X Q x0 x1 x2 x3 σ)), (am_v4 (fun x0 x1 x2 x3 σ => B_Part_sites_5 X Q x0 x1 x2 x3 σ)), (am_v5 (fun x0 x1 x2 x3 x5 σ => B_Part_sites_6 X Q x0 x1 x2 x3 x5 σ))] j v σ
def T_Part_sites : List Int → AMem → (Int → AMem → Prop) → Prop := am_T B_Part_sites
abbrev y_Part_sites : MethodName := ⟨"LinkHouse$Part", "sites", "(I)Z"⟩
def a_Part_sites : AC := (149, (y_Part_sites, prog_6_method_18_code, 12, (Option.some Jvm.ClassFile.FieldType.boolean)), [2, 0], 0, false, { frames := 3, cells := 0, slots := 0, locals := 90 }, T_Part_sites)
set_option maxRecDepth 100000 in
theorem ms_Part_sites : am_MSp a_Part_sites := am_ms_v 6009 8 6008 105001 7 rfl (by decide +kernel)
abbrev k_Part_sites : List AC := [a_Part_isSites, a_Part_mark, a_Part_number, a_Part_width]
set_option maxRecDepth 100000 in
theorem s_Part_sites : (am_chkR { frames := 3, cells := 0, slots := 0, locals := 90 } k_Part_sites && am_chkN c_Part_sites { frames := 3, cells := 0, slots := 0, locals := 90 } && c_Part_sites.all (am_chk "LinkHouse$Part" prog_6_method_18_code 12 (Option.some Jvm.ClassFile.FieldType.boolean) k_Part_sites) && c_Part_sites.all (am_chkL m_Part_sites) && decide (m_Part_sites[0]? = some (0, am_argp 0 [2, 0], [])) && decide (am_argn [2, 0] ≤ 12)) = true := by decide +kernel
set_option maxHeartbeats 150000 in
set_option maxRecDepth 100000 in
theorem h_Part_sites : ∀ X Q j v σ, B_Part_sites X Q j v σ → am_at GR k_Part_sites c_Part_sites m_Part_sites X Q 176 j v σ := fun X Q => am_sel_all (P := fun j v σ => am_at GR k_Part_sites c_Part_sites m_Part_sites X Q 176 j v σ) (⟨(am_v2_of (fun x0 x1 σ h => h)), ⟨(am_v4_of (fun x0 x1 x2 x3 σ h => h)), ⟨(am_v4_of (fun x0 x1 x2 x3 σ h => h)), ⟨(am_v5_of (fun x0 x1 x2 x3 x4 σ h => h)), ⟨(am_v4_of (fun x0 x1 x2 x3 σ h => h)), ⟨(am_v4_of (fun x0 x1 x2 x3 σ h => h)), ⟨(am_v5_of (fun x0 x1 x2 x3 x5 σ h => h)), trivial⟩⟩⟩⟩⟩⟩⟩)
set_option maxRecDepth 100000 in
theorem S_Part_sites (l : Launch) (w : AW) : am_S l w GR a_Part_sites := am_sound (rt := 0) (cal := k_Part_sites) 149 y_Part_sites prog_6_method_18_code 12 (Option.some Jvm.ClassFile.FieldType.boolean) [2, 0] false { frames := 3, cells := 0, slots := 0, locals := 90 } B_Part_sites "LinkHouse$Part" c_Part_sites m_Part_sites 176 ms_Part_sites (by decide +kernel) rfl rfl (am_cal (S_Part_isSites l w) (am_cal (S_Part_mark l w) (am_cal (S_Part_number l w) (am_cal (S_Part_width l w) (fun _ h => absurd h List.not_mem_nil))))) s_Part_sites h_Part_sites
set_option maxRecDepth 100000 in
theorem of_Part_sites {Q : Int → AMem → Prop} {x0 x1 : Int} {σ : AMem} (h : ∀ X : Nat → List Int → AMem → Prop, (∀ (x0 x1 : Int) (σ : AMem), B_Part_sites_0 X Q x0 x1 σ → X 0 [x0, x1] σ) → (∀ (x0 x1 x2 x3 : Int) (σ : AMem), B_Part_sites_1 X Q x0 x1 x2 x3 σ → X 1 [x0, x1, x2, x3] σ) → (∀ (x0 x1 x2 x3 : Int) (σ : AMem), B_Part_sites_2 X Q x0 x1 x2 x3 σ → X 2 [x0, x1, x2, x3] σ) → (∀ (x0 x1 x2 x3 x4 : Int) (σ : AMem), B_Part_sites_3 X Q x0 x1 x2 x3 x4 σ → X 3 [x0, x1, x2, x3, x4] σ) → (∀ (x0 x1 x2 x3 : Int) (σ : AMem), B_Part_sites_4 X Q x0 x1 x2 x3 σ → X 4 [x0, x1, x2, x3] σ) → (∀ (x0 x1 x2 x3 : Int) (σ : AMem), B_Part_sites_5 X Q x0 x1 x2 x3 σ → X 5 [x0, x1, x2, x3] σ) → (∀ (x0 x1 x2 x3 x5 : Int) (σ : AMem), B_Part_sites_6 X Q x0 x1 x2 x3 x5 σ → X 6 [x0, x1, x2, x3, x5] σ) → X 0 [x0, x1] σ) : T_Part_sites [x0, x1] σ Q := fun X hX => h X (fun x0 x1 σ h => hX 0 [x0, x1] σ h) (fun x0 x1 x2 x3 σ h => hX 1 [x0, x1, x2, x3] σ h) (fun x0 x1 x2 x3 σ h => hX 2 [x0, x1, x2, x3] σ h) (fun x0 x1 x2 x3 x4 σ h => hX 3 [x0, x1, x2, x3, x4] σ h) (fun x0 x1 x2 x3 σ h => hX 4 [x0, x1, x2, x3] σ h) (fun x0 x1 x2 x3 σ h => hX 5 [x0, x1, x2, x3] σ h) (fun x0 x1 x2 x3 x5 σ h => hX 6 [x0, x1, x2, x3, x5] σ h)
def c_Part_isGroup : List aE := [(0, 1, .aload_n 0, 1, 0, 0, []), (1, 0, .getfield 28, 3, 7, 13, [2, 0, 1092]), (4, 0, .iload_n 1, 1, 0, 0, []), (5, 0, .laload, 1, 0, 0, []), (6, 0, .lconst 0, 1, 0, 0, []), (7, 0, .lcmp, 1, 0, 0, []), (8, 0, .ifCond .le 91, 3, 0, 0, []), (11, 0, .aload_n 0, 1, 0, 0, []), (12, 0, .getfield 28, 3, 7, 13, [2, 0, 1092]), (15, 0, .iload_n 1, 1, 0, 0, []), (16, 0, .laload, 1, 0, 0, []), (17, 0, .ldc2_w 110, 3, 4, 0, [3053]), (20, 0, .lrem, 1, 0, 0, []), (21, 0, .lconst 0, 1, 0, 0, []), (22, 0, .lcmp, 1, 0, 0, []), (23, 0, .ifCond .ne 76, 3, 0, 0, []), (26, 0, .aload_n 0, 1, 0, 0, []), (27, 0, .getfield 148, 3, 7, 5, [0, 0, 1076]), (30, 0, .ifCond .lt 69, 3, 0, 0, []), (33, 0, .aload_n 0, 1, 0, 0, []), (34, 0, .getfield 15, 3, 7, 9, [2, 0, 1084]), (37, 0, .iload_n 1, 1, 0, 0, []), (38, 0, .iaload, 1, 0, 0, []), (39, 0, .aload_n 0, 1, 0, 0, []), (40, 0, .getfield 148, 3, 7, 5, [0, 0, 1076]), (43, 0, .if_icmp .ne 56, 3, 0, 0, []), (46, 0, .aload_n 0, 1, 0, 0, []), (47, 0, .getfield 18, 3, 7, 10, [2, 0, 1085]), (50, 0, .iload_n 1, 1, 0, 0, []), (51, 0, .iaload, 1, 0, 0, []), (52, 0, .ifCond .le 47, 3, 0, 0, []), (55, 0, .aload_n 0, 1, 0, 0, []), (56, 0, .getfield 18, 3, 7, 10, [2, 0, 1085]), (59, 0, .iload_n 1, 1, 0, 0, []), (60, 0, .iaload, 1, 0, 0, []), (61, 0, .aload_n 0, 1, 0, 0, []), (62, 0, .getfield 145, 3, 7, 4, [0, 0, 1074]), (65, 0, .if_icmp .ge 34, 3, 0, 0, []), (68, 0, .aload_n 0, 1, 0, 0, []), (69, 0, .getfield 37, 3, 7, 16, [2, 0, 1099]), (72, 0, .aload_n 0, 1, 0, 0, []), (73, 0, .getfield 18, 3, 7, 10, [2, 0, 1085]), (76, 0, .iload_n 1, 1, 0, 0, []), (77, 0, .iaload, 1, 0, 0, []), (78, 0, .iaload, 1, 0, 0, []), (79, 0, .ifCond .eq 20, 3, 0, 0, []), (82, 0, .aload_n 0, 1, 0, 0, []), (83, 0, .aload_n 0, 1, 0, 0, []), (84, 0, .getfield 21, 3, 7, 11, [2, 0, 1087]), (87, 0, .iload_n 1, 1, 0, 0, []), (88, 0, .iaload, 1, 0, 0, []), (89, 0, .i2l, 1, 0, 0, []), (90, 0, .iconst 4, 1, 0, 0, []), (91, 0, .invokevirtual 112, 3, 11, 7, [3000]), (94, 0, .lconst 1, 1, 0, 0, []), (95, 0, .lcmp, 1, 0, 0, []), (96, 0, .ifCond .le 5, 3, 0, 0, []), (99, 0, .iconst 0, 1, 0, 0, []), (100, 0, .ireturn, 1, 1, 0, []), (101, 0, .ldc2_w 110, 3, 4, 0, [3053]), (104, 0, .lstore_n 2, 1, 0, 0, []), (105, 2, .lload_n 2, 1, 0, 0, []), (106, 0, .aload_n 0, 1, 0, 0, []), (107, 0, .getfield 28, 3, 7, 13, [2, 0, 1092]), (110, 0, .iload_n 1, 1, 0, 0, []), (111, 0, .laload, 1, 0, 0, []), (112, 0, .lcmp, 1, 0, 0, []), (113, 0, .ifCond .ge 68, 3, 0, 0, []), (116, 0, .aload_n 0, 1, 0, 0, []), (117, 0, .aload_n 0, 1, 0, 0, []), (118, 0, .getfield 21, 3, 7, 11, [2, 0, 1087]), (121, 0, .iload_n 1, 1, 0, 0, []), (122, 0, .iaload, 1, 0, 0, []), (123, 0, .i2l, 1, 0, 0, []), (124, 0, .lload_n 2, 1, 0, 0, []), (125, 0, .ladd, 1, 0, 0, []), (126, 0, .iconst 4, 1, 0, 0, []), (127, 0, .invokevirtual 112, 3, 11, 7, [3000]), (130, 0, .lstore 4, 2, 0, 0, []), (132, 0, .lload 4, 2, 0, 0, []), (134, 0, .lconst 1, 1, 0, 0, []), (135, 0, .lcmp, 1, 0, 0, []), (136, 0, .ifCond .lt 25, 3, 0, 0, []), (139, 0, .lload 4, 2, 0, 0, []), (141, 0, .aload_n 0, 1, 0, 0, []), (142, 0, .getfield 142, 3, 7, 3, [0, 0, 1072]), (145, 0, .i2l, 1, 0, 0, []), (146, 0, .lcmp, 1, 0, 0, []), (147, 0, .ifCond .ge 14, 3, 0, 0, []), (150, 0, .aload_n 0, 1, 0, 0, []), (151, 0, .getfield 74, 3, 7, 28, [2, 0, 1123]), (154, 0, .lload 4, 2, 0, 0, []), (156, 0, .l2i, 1, 0, 0, []), (157, 0, .baload, 1, 3, 0, []), (158, 0, .ifCond .eq 5, 3, 0, 0, []), (161, 0, .iconst 0, 1, 0, 0, []), (162, 0, .ireturn, 1, 1, 0, []), (163, 0, .aload_n 0, 1, 0, 0, []), (164, 0, .getfield 74, 3, 7, 28, [2, 0, 1123]), (167, 0, .lload 4, 2, 0, 0, []), (169, 0, .l2i, 1, 0, 0, []), (170, 0, .iconst 1, 1, 0, 0, []), (171, 0, .bastore, 1, 3, 0, []), (172, 0, .lload_n 2, 1, 0, 0, []), (173, 0, .ldc2_w 110, 3, 4, 0, [3053]), (176, 0, .ladd, 1, 0, 0, []), (177, 0, .lstore_n 2, 1, 0, 0, []), (178, 0, .goto (-73), 3, 0, 0, []), (181, 0, .iconst 1, 1, 0, 0, []), (182, 0, .ireturn, 1, 1, 0, [])]
def m_Part_isGroup : List aT := [(0, [(0, 2), (1, 0)], []), (105, [(0, 2), (1, 0), (2, 1)], [])]
def B_Part_isGroup_0 (X : Nat → List Int → AMem → Prop) (Q : Int → AMem → Prop) (x0 x1 : Int) (σ : AMem) : Prop :=
  (if ly_k x0 = 27 then (if ly_k (am_rd GR σ x0 13) = 4 then 0 ≤ x1 ∧ x1 < ly_l (am_rd GR σ x0 13) ∧ (if 0 < (σ (am_rd GR σ x0 13) x1) then
  (if ly_k x0 = 27 then (if ly_k (am_rd GR σ x0 13) = 4 then 0 ≤ x1 ∧ x1 < ly_l (am_rd GR σ x0 13) ∧ (0 : Int) < 4 ∧ (if ((σ (am_rd GR σ x0 13) x1).tmod 4) = 0 then
    (if ly_k x0 = 27 then (if (am_rd GR σ x0 5) < 0 then
      Q 0 σ
      else
      (if ly_k x0 = 27 then (if ly_k (am_rd GR σ x0 9) = 1 then 0 ≤ x1 ∧ x1 < ly_l (am_rd GR σ x0 9) ∧ (if ly_k x0 = 27 then (if (σ (am_rd GR σ x0 9) x1) = (am_rd GR σ x0 5) then
        (if ly_k x0 = 27 then (if ly_k (am_rd GR σ x0 10) = 1 then 0 ≤ x1 ∧ x1 < ly_l (am_rd GR σ x0 10) ∧ (if 0 < (σ (am_rd GR σ x0 10) x1) then
          (if ly_k x0 = 27 then (if ly_k (am_rd GR σ x0 10) = 1 then 0 ≤ x1 ∧ x1 < ly_l (am_rd GR σ x0 10) ∧ (if ly_k x0 = 27 then (if (σ (am_rd GR σ x0 10) x1) < (am_rd GR σ x0 4) then
            (if ly_k x0 = 27 then (if ly_k x0 = 27 then (if ly_k (am_rd GR σ x0 10) = 1 then 0 ≤ x1 ∧ x1 < ly_l (am_rd GR σ x0 10) ∧ (if ly_k (am_rd GR σ x0 16) = 1 then 0 ≤ (σ (am_rd GR σ x0 10) x1) ∧ (σ (am_rd GR σ x0 10) x1) < ly_l (am_rd GR σ x0 16) ∧ (if (σ (am_rd GR σ x0 16) (σ (am_rd GR σ x0 10) x1)) = 0 then
              Q 0 σ
              else
              (if ly_k x0 = 27 then (if ly_k (am_rd GR σ x0 11) = 1 then 0 ≤ x1 ∧ x1 < ly_l (am_rd GR σ x0 11) ∧ (if ly_k x0 = 27 then T_Part_number [x0, (σ (am_rd GR σ x0 11) x1), 4] σ (fun r1 σ2 => (if 1 < r1 then
                Q 0 σ2
                else
                X 1 [x0, x1, 4] σ2)) else False) else False) else False)) else False) else False) else False) else False)
            else
            Q 0 σ) else False) else False) else False)
          else
          Q 0 σ) else False) else False)
        else
        Q 0 σ) else False) else False) else False)) else False)
    else
    Q 0 σ) else False) else False)
  else
  Q 0 σ) else False) else False)
def B_Part_isGroup_1 (X : Nat → List Int → AMem → Prop) (Q : Int → AMem → Prop) (x0 x1 x2 : Int) (σ : AMem) : Prop :=
  (if ly_k x0 = 27 then (if ly_k (am_rd GR σ x0 13) = 4 then 0 ≤ x1 ∧ x1 < ly_l (am_rd GR σ x0 13) ∧ (if x2 < (σ (am_rd GR σ x0 13) x1) then
  (if ly_k x0 = 27 then (if ly_k (am_rd GR σ x0 11) = 1 then 0 ≤ x1 ∧ x1 < ly_l (am_rd GR σ x0 11) ∧ (if ly_k x0 = 27 then T_Part_number [x0, (w64 ((σ (am_rd GR σ x0 11) x1) + x2)), 4] σ (fun r1 σ2 => (if r1 < 1 then
    Q 0 σ2
    else
    (if ly_k x0 = 27 then (if r1 < (am_rd GR σ2 x0 3) then
      (if ly_k x0 = 27 then (if ly_k (am_rd GR σ2 x0 28) = 3 then 0 ≤ (w32 r1) ∧ (w32 r1) < ly_l (am_rd GR σ2 x0 28) ∧ (if (σ2 (am_rd GR σ2 x0 28) (w32 r1)) = 0 then
        (if ly_k x0 = 27 then (if ly_k (am_rd GR σ2 x0 28) = 3 then 0 ≤ (w32 r1) ∧ (w32 r1) < ly_l (am_rd GR σ2 x0 28) ∧ am_let (am_upd σ2 (am_rd GR σ2 x0 28) (w32 r1) 1) (fun σ3 => X 1 [x0, x1, (w64 (x2 + 4))] σ3) else False) else False)
        else
        Q 0 σ2) else False) else False)
      else
      Q 0 σ2) else False))) else False) else False) else False)
  else
  Q 1 σ) else False) else False)
def B_Part_isGroup : (Nat → List Int → AMem → Prop) → (Int → AMem → Prop) → Nat → List Int → AMem → Prop := fun X Q j v σ => am_sel [(am_v2 (fun x0 x1 σ => B_Part_isGroup_0 X Q x0 x1 σ)), (am_v3 (fun x0 x1 x2 σ => B_Part_isGroup_1 X Q x0 x1 x2 σ))] j v σ
def T_Part_isGroup : List Int → AMem → (Int → AMem → Prop) → Prop := am_T B_Part_isGroup
abbrev y_Part_isGroup : MethodName := ⟨"LinkHouse$Part", "isGroup", "(I)Z"⟩
def a_Part_isGroup : AC := (150, (y_Part_isGroup, prog_6_method_20_code, 6, (Option.some Jvm.ClassFile.FieldType.boolean)), [2, 0], 0, false, { frames := 1, cells := 0, slots := 0, locals := 34 }, T_Part_isGroup)
set_option maxRecDepth 100000 in
theorem ms_Part_isGroup : am_MSp a_Part_isGroup := am_ms_v 6019 8 6018 105003 7 rfl (by decide +kernel)
abbrev k_Part_isGroup : List AC := [a_Part_number]
set_option maxRecDepth 100000 in
theorem s_Part_isGroup : (am_chkR { frames := 1, cells := 0, slots := 0, locals := 34 } k_Part_isGroup && am_chkN c_Part_isGroup { frames := 1, cells := 0, slots := 0, locals := 34 } && c_Part_isGroup.all (am_chk "LinkHouse$Part" prog_6_method_20_code 6 (Option.some Jvm.ClassFile.FieldType.boolean) k_Part_isGroup) && c_Part_isGroup.all (am_chkL m_Part_isGroup) && decide (m_Part_isGroup[0]? = some (0, am_argp 0 [2, 0], [])) && decide (am_argn [2, 0] ≤ 6)) = true := by decide +kernel
set_option maxHeartbeats 150000 in
set_option maxRecDepth 100000 in
theorem h_Part_isGroup : ∀ X Q j v σ, B_Part_isGroup X Q j v σ → am_at GR k_Part_isGroup c_Part_isGroup m_Part_isGroup X Q 115 j v σ := fun X Q => am_sel_all (P := fun j v σ => am_at GR k_Part_isGroup c_Part_isGroup m_Part_isGroup X Q 115 j v σ) (⟨(am_v2_of (fun x0 x1 σ h => h)), ⟨(am_v3_of (fun x0 x1 x2 σ h => h)), trivial⟩⟩)
set_option maxRecDepth 100000 in
theorem S_Part_isGroup (l : Launch) (w : AW) : am_S l w GR a_Part_isGroup := am_sound (rt := 0) (cal := k_Part_isGroup) 150 y_Part_isGroup prog_6_method_20_code 6 (Option.some Jvm.ClassFile.FieldType.boolean) [2, 0] false { frames := 1, cells := 0, slots := 0, locals := 34 } B_Part_isGroup "LinkHouse$Part" c_Part_isGroup m_Part_isGroup 115 ms_Part_isGroup (by decide +kernel) rfl rfl (am_cal (S_Part_number l w) (fun _ h => absurd h List.not_mem_nil)) s_Part_isGroup h_Part_isGroup
set_option maxRecDepth 100000 in
theorem of_Part_isGroup {Q : Int → AMem → Prop} {x0 x1 : Int} {σ : AMem} (h : ∀ X : Nat → List Int → AMem → Prop, (∀ (x0 x1 : Int) (σ : AMem), B_Part_isGroup_0 X Q x0 x1 σ → X 0 [x0, x1] σ) → (∀ (x0 x1 x2 : Int) (σ : AMem), B_Part_isGroup_1 X Q x0 x1 x2 σ → X 1 [x0, x1, x2] σ) → X 0 [x0, x1] σ) : T_Part_isGroup [x0, x1] σ Q := fun X hX => h X (fun x0 x1 σ h => hX 0 [x0, x1] σ h) (fun x0 x1 x2 σ h => hX 1 [x0, x1, x2] σ h)
