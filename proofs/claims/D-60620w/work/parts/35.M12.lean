/-! methods: printed by gen/all.py -/
def c_Model_cause : List aE := [(0, 1, .aload_n 0, 1, 0, 0, []), (1, 0, .iload_n 1, 1, 0, 0, []), (2, 0, .ifCond .lt 41, 3, 0, 0, []), (5, 0, .iload_n 1, 1, 0, 0, []), (6, 0, .aload_n 0, 1, 0, 0, []), (7, 0, .getfield 467, 3, 8, 5, [0, 0, 6194]), (10, 0, .if_icmp .ge 33, 3, 0, 0, []), (13, 0, .iload_n 2, 1, 0, 0, []), (14, 0, .ifCond .lt 29, 3, 0, 0, []), (17, 0, .iload_n 2, 1, 0, 0, []), (18, 0, .aload_n 0, 1, 0, 0, []), (19, 0, .getfield 24, 3, 8, 8, [2, 0, 6197]), (22, 0, .iload_n 1, 1, 0, 0, []), (23, 0, .ifCond .lt 11, 3, 0, 0, []), (26, 0, .iload_n 1, 1, 0, 0, []), (27, 0, .aload_n 0, 1, 0, 0, []), (28, 0, .getfield 467, 3, 8, 5, [0, 0, 6194]), (31, 0, .if_icmp .lt 7, 3, 0, 0, []), (34, 2, .iconst 0, 1, 0, 0, []), (35, 0, .goto 4, 3, 0, 0, []), (38, 0, .iload_n 1, 1, 0, 0, []), (39, 3, .iaload, 1, 0, 0, []), (40, 0, .if_icmp .lt 7, 3, 0, 0, []), (43, 4, .iconst 1, 1, 0, 0, []), (44, 0, .goto 4, 3, 0, 0, []), (47, 0, .iconst 0, 1, 0, 0, []), (48, 5, .iconst 0, 1, 0, 0, []), (49, 0, .invokevirtual 287, 3, 181, 8, [8108]), (52, 0, .ifCond .eq 5, 3, 0, 0, []), (55, 0, .iconst 0, 1, 0, 0, []), (56, 0, .ireturn, 1, 0, 0, []), (57, 0, .bipush 8, 2, 0, 0, []), (59, 0, .iload_n 1, 1, 0, 0, []), (60, 0, .imul, 1, 0, 0, []), (61, 0, .iload_n 2, 1, 0, 0, []), (62, 0, .iadd, 1, 0, 0, []), (63, 0, .istore_n 3, 1, 0, 0, []), (64, 0, .aload_n 0, 1, 0, 0, []), (65, 0, .getfield 50, 3, 8, 19, [2, 0, 6208]), (68, 0, .iload_n 1, 1, 0, 0, []), (69, 0, .baload, 1, 3, 0, []), (70, 0, .ifCond .eq 21, 3, 0, 0, []), (73, 0, .aload_n 0, 1, 0, 0, []), (74, 0, .getfield 47, 3, 8, 18, [2, 0, 6207]), (77, 0, .iload_n 3, 1, 0, 0, []), (78, 0, .baload, 1, 3, 0, []), (79, 0, .ifCond .eq 12, 3, 0, 0, []), (82, 0, .aload_n 0, 1, 0, 0, []), (83, 0, .getfield 106, 3, 8, 40, [2, 0, 6229]), (86, 0, .iload_n 3, 1, 0, 0, []), (87, 0, .iaload, 1, 0, 0, []), (88, 0, .ifCond .ge 5, 3, 0, 0, []), (91, 0, .iconst 0, 1, 0, 0, []), (92, 0, .ireturn, 1, 0, 0, []), (93, 0, .aload_n 0, 1, 0, 0, []), (94, 0, .aload_n 0, 1, 0, 0, []), (95, 0, .getfield 54, 3, 8, 21, [2, 0, 6210]), (98, 0, .bipush 20, 2, 0, 0, []), (100, 0, .aload_n 0, 1, 0, 0, []), (101, 0, .getfield 106, 3, 8, 40, [2, 0, 6229]), (104, 0, .iload_n 3, 1, 0, 0, []), (105, 0, .iaload, 1, 0, 0, []), (106, 0, .imul, 1, 0, 0, []), (107, 0, .aload_n 0, 1, 0, 0, []), (108, 0, .getfield 57, 3, 8, 22, [2, 0, 6211]), (111, 0, .aload_n 0, 1, 0, 0, []), (112, 0, .getfield 106, 3, 8, 40, [2, 0, 6229]), (115, 0, .iload_n 3, 1, 0, 0, []), (116, 0, .iaload, 1, 0, 0, []), (117, 0, .iaload, 1, 0, 0, []), (118, 0, .invokevirtual 544, 3, 243, 8, [9148]), (121, 0, .aload_n 0, 1, 0, 0, []), (122, 0, .getfield 519, 3, 8, 4, [0, 0, 6193]), (125, 0, .ireturn, 1, 0, 0, [])]
def m_Model_cause : List aT := [(0, [(0, 2), (1, 0), (2, 0)], []), (34, [(0, 2), (1, 0), (2, 0)], [2, 0, 2]), (39, [(0, 2), (1, 0), (2, 0)], [0, 2, 0, 2]), (43, [(0, 2), (1, 0), (2, 0)], [2]), (48, [(0, 2), (1, 0), (2, 0)], [0, 2])]
def B_Model_cause_0 (X : Nat → List Int → AMem → Prop) (Q : Int → AMem → Prop) (x1 x2 : Int) (σ : AMem) : Prop :=
  (if x1 < 0 then
  X 3 [9790, x1, x2, 9790] σ
  else
  (if x1 < (σ 9790 5) then
    (if x2 < 0 then
      X 3 [9790, x1, x2, 9790] σ
      else
      (if x1 < 0 then
        X 1 [9790, x1, x2, 9795, x2, 9790] σ
        else
        (if x1 < (σ 9790 5) then
          X 2 [9790, x1, x2, x1, 9795, x2, 9790] σ
          else
          X 1 [9790, x1, x2, 9795, x2, 9790] σ)))
    else
    X 3 [9790, x1, x2, 9790] σ))
def B_Model_cause_1 (X : Nat → List Int → AMem → Prop) (Q : Int → AMem → Prop) (x1 x2 s0 s1 s2 : Int) (σ : AMem) : Prop :=
  X 2 [9790, x1, x2, 0, s0, s1, s2] σ
def B_Model_cause_2 (X : Nat → List Int → AMem → Prop) (Q : Int → AMem → Prop) (x1 x2 s0 s1 s2 s3 : Int) (σ : AMem) : Prop :=
  (if ly_k s1 = 1 then 0 ≤ s0 ∧ s0 < ly_l s1 ∧ (if s2 < (σ s1 s0) then
  X 4 [9790, x1, x2, 0, s3] σ
  else
  X 3 [9790, x1, x2, s3] σ) else False)
def B_Model_cause_3 (X : Nat → List Int → AMem → Prop) (Q : Int → AMem → Prop) (x1 x2 s0 : Int) (σ : AMem) : Prop :=
  X 4 [9790, x1, x2, 1, s0] σ
def B_Model_cause_4 (X : Nat → List Int → AMem → Prop) (Q : Int → AMem → Prop) (x1 x2 s0 s1 : Int) (σ : AMem) : Prop :=
  (if ly_k s1 = 28 then T_Model_throwing [s1, s0, 0] σ (fun r1 σ2 => (if r1 = 0 then
  am_r32 (8 * x1) ∧ am_r32 ((8 * x1) + x2) ∧ 0 ≤ x1 ∧ x1 < 8 ∧ (if (σ2 9802 x1) = 0 then
    Q 0 σ2
    else
    0 ≤ ((8 * x1) + x2) ∧ ((8 * x1) + x2) < 64 ∧ (if (σ2 9801 ((8 * x1) + x2)) = 0 then
      Q 0 σ2
      else
      0 ≤ ((8 * x1) + x2) ∧ ((8 * x1) + x2) < 64 ∧ (if (σ2 9820 ((8 * x1) + x2)) < 0 then
        Q 0 σ2
        else
        0 ≤ ((8 * x1) + x2) ∧ ((8 * x1) + x2) < 64 ∧ am_r32 (20 * (σ2 9820 ((8 * x1) + x2))) ∧ 0 ≤ ((8 * x1) + x2) ∧ ((8 * x1) + x2) < 64 ∧ 0 ≤ (σ2 9820 ((8 * x1) + x2)) ∧ (σ2 9820 ((8 * x1) + x2)) < 4096 ∧ T_Model_say [9790, 9803, (20 * (σ2 9820 ((8 * x1) + x2))), (σ2 9804 (σ2 9820 ((8 * x1) + x2)))] σ2 (fun r3 σ4 => Q (σ4 9790 4) σ4))))
  else
  Q 0 σ2)) else False)
def B_Model_cause : (Nat → List Int → AMem → Prop) → (Int → AMem → Prop) → Nat → List Int → AMem → Prop := fun X Q j v σ => am_sel [(am_v3 (fun t x1 x2 σ => if t = 9790 then B_Model_cause_0 X Q x1 x2 σ else False)), (am_v6 (fun t x1 x2 s0 s1 s2 σ => if t = 9790 then B_Model_cause_1 X Q x1 x2 s0 s1 s2 σ else False)), (am_v7 (fun t x1 x2 s0 s1 s2 s3 σ => if t = 9790 then B_Model_cause_2 X Q x1 x2 s0 s1 s2 s3 σ else False)), (am_v4 (fun t x1 x2 s0 σ => if t = 9790 then B_Model_cause_3 X Q x1 x2 s0 σ else False)), (am_v5 (fun t x1 x2 s0 s1 σ => if t = 9790 then B_Model_cause_4 X Q x1 x2 s0 s1 σ else False))] j v σ
def T_Model_cause : List Int → AMem → (Int → AMem → Prop) → Prop := am_T B_Model_cause
abbrev y_Model_cause : MethodName := ⟨"LinkHouseModel", "cause", "(II)I"⟩
def a_Model_cause : AC := (299, (y_Model_cause, prog_10_method_120_code, 4, (Option.some Jvm.ClassFile.FieldType.int)), [2, 0, 0], 0, false, { frames := 1, cells := 0, slots := 0, locals := 32 }, T_Model_cause)
set_option maxRecDepth 100000 in
theorem ms_Model_cause : am_MSp a_Model_cause := am_ms_v 10131 9 10129 10130 8 rfl (by decide +kernel)
abbrev k_Model_cause : List AC := [a_Model_throwing, a_Model_say]
set_option maxRecDepth 100000 in
theorem s_Model_cause : (am_chkR { frames := 1, cells := 0, slots := 0, locals := 32 } k_Model_cause && am_chkN c_Model_cause { frames := 1, cells := 0, slots := 0, locals := 32 } && c_Model_cause.all (am_chk "LinkHouseModel" prog_10_method_120_code 4 (Option.some Jvm.ClassFile.FieldType.int) k_Model_cause) && c_Model_cause.all (am_chkL m_Model_cause) && decide (m_Model_cause[0]? = some (0, am_argp 0 [2, 0, 0], [])) && decide (am_argn [2, 0, 0] ≤ 4)) = true := by decide +kernel
set_option maxHeartbeats 150000 in
set_option maxRecDepth 100000 in
theorem h_Model_cause : ∀ X Q j v σ, B_Model_cause X Q j v σ → am_at GR k_Model_cause c_Model_cause m_Model_cause X Q 79 j v σ := fun X Q => am_sel_all (P := fun j v σ => am_at GR k_Model_cause c_Model_cause m_Model_cause X Q 79 j v σ) (⟨(am_v3_of (fun t x1 x2 σ h => am_tk (fun e => by subst e; exact fun h => h) h)), ⟨(am_v6_of (fun t x1 x2 s0 s1 s2 σ h => am_tk (fun e => by subst e; exact fun h => h) h)), ⟨(am_v7_of (fun t x1 x2 s0 s1 s2 s3 σ h => am_tk (fun e => by subst e; exact fun h => h) h)), ⟨(am_v4_of (fun t x1 x2 s0 σ h => am_tk (fun e => by subst e; exact fun h => h) h)), ⟨(am_v5_of (fun t x1 x2 s0 s1 σ h => am_tk (fun e => by subst e; exact fun h => h) h)), trivial⟩⟩⟩⟩⟩)
set_option maxRecDepth 100000 in
theorem S_Model_cause (l : Launch) (w : AW) : am_S l w GR a_Model_cause := am_sound (rt := 0) (cal := k_Model_cause) 299 y_Model_cause prog_10_method_120_code 4 (Option.some Jvm.ClassFile.FieldType.int) [2, 0, 0] false { frames := 1, cells := 0, slots := 0, locals := 32 } B_Model_cause "LinkHouseModel" c_Model_cause m_Model_cause 79 ms_Model_cause (by decide +kernel) rfl rfl (am_cal (S_Model_throwing l w) (am_cal (S_Model_say l w) (fun _ h => absurd h List.not_mem_nil))) s_Model_cause h_Model_cause
set_option maxRecDepth 100000 in
theorem of_Model_cause {Q : Int → AMem → Prop} {x1 x2 : Int} {σ : AMem} (h : ∀ X : Nat → List Int → AMem → Prop, (∀ (x1 x2 : Int) (σ : AMem), B_Model_cause_0 X Q x1 x2 σ → X 0 [9790, x1, x2] σ) → (∀ (x1 x2 s0 s1 s2 : Int) (σ : AMem), B_Model_cause_1 X Q x1 x2 s0 s1 s2 σ → X 1 [9790, x1, x2, s0, s1, s2] σ) → (∀ (x1 x2 s0 s1 s2 s3 : Int) (σ : AMem), B_Model_cause_2 X Q x1 x2 s0 s1 s2 s3 σ → X 2 [9790, x1, x2, s0, s1, s2, s3] σ) → (∀ (x1 x2 s0 : Int) (σ : AMem), B_Model_cause_3 X Q x1 x2 s0 σ → X 3 [9790, x1, x2, s0] σ) → (∀ (x1 x2 s0 s1 : Int) (σ : AMem), B_Model_cause_4 X Q x1 x2 s0 s1 σ → X 4 [9790, x1, x2, s0, s1] σ) → X 0 [9790, x1, x2] σ) : T_Model_cause [9790, x1, x2] σ Q := fun X hX => h X (fun x1 x2 σ h => hX 0 [9790, x1, x2] σ h) (fun x1 x2 s0 s1 s2 σ h => hX 1 [9790, x1, x2, s0, s1, s2] σ h) (fun x1 x2 s0 s1 s2 s3 σ h => hX 2 [9790, x1, x2, s0, s1, s2, s3] σ h) (fun x1 x2 s0 σ h => hX 3 [9790, x1, x2, s0] σ h) (fun x1 x2 s0 s1 σ h => hX 4 [9790, x1, x2, s0, s1] σ h)
def c_Model_sum : List aE := [(0, 1, .iload_n 1, 1, 0, 0, []), (1, 0, .ifCond .lt 41, 3, 0, 0, []), (4, 0, .iload_n 1, 1, 0, 0, []), (5, 0, .aload_n 0, 1, 0, 0, []), (6, 0, .getfield 467, 3, 8, 5, [0, 0, 6194]), (9, 0, .if_icmp .ge 33, 3, 0, 0, []), (12, 0, .iload_n 2, 1, 0, 0, []), (13, 0, .ifCond .lt 29, 3, 0, 0, []), (16, 0, .iload_n 2, 1, 0, 0, []), (17, 0, .aload_n 0, 1, 0, 0, []), (18, 0, .getfield 24, 3, 8, 8, [2, 0, 6197]), (21, 0, .iload_n 1, 1, 0, 0, []), (22, 0, .ifCond .lt 11, 3, 0, 0, []), (25, 0, .iload_n 1, 1, 0, 0, []), (26, 0, .aload_n 0, 1, 0, 0, []), (27, 0, .getfield 467, 3, 8, 5, [0, 0, 6194]), (30, 0, .if_icmp .lt 7, 3, 0, 0, []), (33, 2, .iconst 0, 1, 0, 0, []), (34, 0, .goto 4, 3, 0, 0, []), (37, 0, .iload_n 1, 1, 0, 0, []), (38, 3, .iaload, 1, 0, 0, []), (39, 0, .if_icmp .lt 7, 3, 0, 0, []), (42, 4, .iconst 1, 1, 0, 0, []), (43, 0, .goto 4, 3, 0, 0, []), (46, 0, .iconst 0, 1, 0, 0, []), (47, 5, .istore 4, 2, 0, 0, []), (49, 0, .aload_n 0, 1, 0, 0, []), (50, 0, .iload 4, 2, 0, 0, []), (52, 0, .ifCond .ne 35, 3, 0, 0, []), (55, 0, .aload_n 0, 1, 0, 0, []), (56, 0, .getfield 37, 3, 8, 12, [2, 0, 6201]), (59, 0, .iload 4, 2, 0, 0, []), (61, 0, .ifCond .eq 7, 3, 0, 0, []), (64, 0, .iconst 0, 1, 0, 0, []), (65, 0, .goto 9, 3, 0, 0, []), (68, 0, .bipush 8, 2, 0, 0, []), (70, 0, .iload_n 1, 1, 0, 0, []), (71, 0, .imul, 1, 0, 0, []), (72, 0, .iload_n 2, 1, 0, 0, []), (73, 0, .iadd, 1, 0, 0, []), (74, 6, .baload, 1, 3, 0, []), (75, 0, .ifCond .ne 12, 3, 0, 0, []), (78, 0, .iload_n 3, 1, 0, 0, []), (79, 0, .ifCond .lt 8, 3, 0, 0, []), (82, 0, .iload_n 3, 1, 0, 0, []), (83, 0, .iconst 5, 1, 0, 0, []), (84, 0, .if_icmp .le 7, 3, 0, 0, []), (87, 7, .iconst 1, 1, 0, 0, []), (88, 0, .goto 4, 3, 0, 0, []), (91, 0, .iconst 0, 1, 0, 0, []), (92, 8, .iconst 0, 1, 0, 0, []), (93, 0, .invokevirtual 287, 3, 181, 8, [8108]), (96, 0, .ifCond .eq 5, 3, 0, 0, []), (99, 0, .lconst 0, 1, 0, 0, []), (100, 0, .lreturn, 1, 0, 0, []), (101, 0, .aload_n 0, 1, 0, 0, []), (102, 0, .getfield 27, 3, 8, 9, [2, 0, 6198]), (105, 0, .bipush 8, 2, 0, 0, []), (107, 0, .iload_n 1, 1, 0, 0, []), (108, 0, .imul, 1, 0, 0, []), (109, 0, .iload_n 2, 1, 0, 0, []), (110, 0, .iadd, 1, 0, 0, []), (111, 0, .iaload, 1, 0, 0, []), (112, 0, .istore 5, 2, 0, 0, []), (114, 0, .lconst 0, 1, 0, 0, []), (115, 0, .lstore 6, 2, 0, 0, []), (117, 0, .iconst 1, 1, 0, 0, []), (118, 0, .istore 8, 2, 0, 0, []), (120, 9, .iload 8, 2, 0, 0, []), (122, 0, .aload_n 0, 1, 0, 0, []), (123, 0, .iload 5, 2, 0, 0, []), (125, 0, .invokevirtual 313, 3, 185, 8, [8136]), (128, 0, .if_icmp .ge 49, 3, 0, 0, []), (131, 0, .lload 6, 2, 0, 0, []), (133, 0, .aload_n 0, 1, 0, 0, []), (134, 0, .iload 5, 2, 0, 0, []), (136, 0, .iload 8, 2, 0, 0, []), (138, 0, .invokevirtual 347, 3, 192, 8, [8164]), (141, 0, .ifCond .eq 26, 3, 0, 0, []), (144, 0, .aload_n 0, 1, 0, 0, []), (145, 0, .iload 5, 2, 0, 0, []), (147, 0, .iload 8, 2, 0, 0, []), (149, 0, .invokevirtual 604, 3, 256, 8, [9192]), (152, 0, .iload_n 3, 1, 0, 0, []), (153, 0, .if_icmp .ne 14, 3, 0, 0, []), (156, 0, .aload_n 0, 1, 0, 0, []), (157, 0, .iload 5, 2, 0, 0, []), (159, 0, .iload 8, 2, 0, 0, []), (161, 0, .invokevirtual 320, 3, 190, 8, [8160]), (164, 0, .goto 4, 3, 0, 0, []), (167, 10, .lconst 0, 1, 0, 0, []), (168, 11, .ladd, 1, 0, 0, []), (169, 0, .lstore 6, 2, 0, 0, []), (171, 0, .iinc 8 1, 3, 0, 0, []), (174, 0, .goto (-54), 3, 0, 0, []), (177, 0, .lload 6, 2, 0, 0, []), (179, 0, .lreturn, 1, 0, 0, [])]
def m_Model_sum : List aT := [(0, [(0, 2), (1, 0), (2, 0), (3, 0)], []), (33, [(0, 2), (1, 0), (2, 0), (3, 0)], [2, 0]), (38, [(0, 2), (1, 0), (2, 0), (3, 0)], [0, 2, 0]), (42, [(0, 2), (1, 0), (2, 0), (3, 0)], []), (47, [(0, 2), (1, 0), (2, 0), (3, 0)], [0]), (74, [(0, 2), (1, 0), (2, 0), (3, 0)], [0, 2, 2]), (87, [(0, 2), (1, 0), (2, 0), (3, 0)], [2]), (92, [(0, 2), (1, 0), (2, 0), (3, 0)], [0, 2]), (120, [(0, 2), (3, 0), (5, 0), (6, 1), (8, 0)], []), (167, [(0, 2), (3, 0), (5, 0), (8, 0)], [1]), (168, [(0, 2), (3, 0), (5, 0), (8, 0)], [1, 1])]
def B_Model_sum_0 (X : Nat → List Int → AMem → Prop) (Q : Int → AMem → Prop) (x1 x2 x3 : Int) (σ : AMem) : Prop :=
  (if x1 < 0 then
  X 3 [9790, x1, x2, x3] σ
  else
  (if x1 < (σ 9790 5) then
    (if x2 < 0 then
      X 3 [9790, x1, x2, x3] σ
      else
      (if x1 < 0 then
        X 1 [9790, x1, x2, x3, 9795, x2] σ
        else
        (if x1 < (σ 9790 5) then
          X 2 [9790, x1, x2, x3, x1, 9795, x2] σ
          else
          X 1 [9790, x1, x2, x3, 9795, x2] σ)))
    else
    X 3 [9790, x1, x2, x3] σ))
def B_Model_sum_1 (X : Nat → List Int → AMem → Prop) (Q : Int → AMem → Prop) (x1 x2 x3 s0 s1 : Int) (σ : AMem) : Prop :=
  X 2 [9790, x1, x2, x3, 0, s0, s1] σ
def B_Model_sum_2 (X : Nat → List Int → AMem → Prop) (Q : Int → AMem → Prop) (x1 x2 x3 s0 s1 s2 : Int) (σ : AMem) : Prop :=
  (if ly_k s1 = 1 then 0 ≤ s0 ∧ s0 < ly_l s1 ∧ (if s2 < (σ s1 s0) then
  X 4 [9790, x1, x2, x3, 0] σ
  else
  X 3 [9790, x1, x2, x3] σ) else False)
def B_Model_sum_3 (X : Nat → List Int → AMem → Prop) (Q : Int → AMem → Prop) (x1 x2 x3 : Int) (σ : AMem) : Prop :=
  X 4 [9790, x1, x2, x3, 1] σ
def B_Model_sum_4 (X : Nat → List Int → AMem → Prop) (Q : Int → AMem → Prop) (x1 x2 x3 s0 : Int) (σ : AMem) : Prop :=
  (if s0 = 0 then
  (if s0 = 0 then
    am_r32 (8 * x1) ∧ am_r32 ((8 * x1) + x2) ∧ X 5 [9790, x1, x2, x3, ((8 * x1) + x2), 9799, 9790] σ
    else
    X 5 [9790, x1, x2, x3, 0, 9799, 9790] σ)
  else
  X 6 [9790, x1, x2, x3, 9790] σ)
def B_Model_sum_5 (X : Nat → List Int → AMem → Prop) (Q : Int → AMem → Prop) (x1 x2 x3 s0 s1 s2 : Int) (σ : AMem) : Prop :=
  (if ly_k s1 = 3 then 0 ≤ s0 ∧ s0 < ly_l s1 ∧ (if (σ s1 s0) = 0 then
  (if x3 < 0 then
    X 6 [9790, x1, x2, x3, s2] σ
    else
    (if 5 < x3 then
      X 6 [9790, x1, x2, x3, s2] σ
      else
      X 7 [9790, x1, x2, x3, 0, s2] σ))
  else
  X 6 [9790, x1, x2, x3, s2] σ) else False)
def B_Model_sum_6 (X : Nat → List Int → AMem → Prop) (Q : Int → AMem → Prop) (x1 x2 x3 s0 : Int) (σ : AMem) : Prop :=
  X 7 [9790, x1, x2, x3, 1, s0] σ
def B_Model_sum_7 (X : Nat → List Int → AMem → Prop) (Q : Int → AMem → Prop) (x1 x2 x3 s0 s1 : Int) (σ : AMem) : Prop :=
  (if ly_k s1 = 28 then T_Model_throwing [s1, s0, 0] σ (fun r1 σ2 => (if r1 = 0 then
  am_r32 (8 * x1) ∧ am_r32 ((8 * x1) + x2) ∧ 0 ≤ ((8 * x1) + x2) ∧ ((8 * x1) + x2) < 64 ∧ X 8 [9790, x3, (σ2 9796 ((8 * x1) + x2)), 0, 1] σ2
  else
  Q 0 σ2)) else False)
def B_Model_sum_8 (X : Nat → List Int → AMem → Prop) (Q : Int → AMem → Prop) (x3 x5 x6 x8 : Int) (σ : AMem) : Prop :=
  T_Model_sections [9790, x5] σ (fun r1 σ2 => (if x8 < r1 then
  T_Model_isKept [9790, x5, x8] σ2 (fun r3 σ4 => (if r3 = 0 then
    X 9 [9790, x3, x5, x8, x6] σ4
    else
    T_Model_group [9790, x5, x8] σ4 (fun r5 σ6 => (if r5 = x3 then
      T_Model_size [9790, x5, x8] σ6 (fun r7 σ8 => X 10 [9790, x3, x5, x8, r7, x6] σ8)
      else
      X 9 [9790, x3, x5, x8, x6] σ6))))
  else
  Q x6 σ2))
def B_Model_sum_9 (X : Nat → List Int → AMem → Prop) (Q : Int → AMem → Prop) (x3 x5 x8 s0 : Int) (σ : AMem) : Prop :=
  X 10 [9790, x3, x5, x8, 0, s0] σ
def B_Model_sum_10 (X : Nat → List Int → AMem → Prop) (Q : Int → AMem → Prop) (x3 x5 x8 s0 s1 : Int) (σ : AMem) : Prop :=
  am_r32 (x8 + 1) ∧ X 8 [9790, x3, x5, (w64 (s1 + s0)), (x8 + 1)] σ
def B_Model_sum : (Nat → List Int → AMem → Prop) → (Int → AMem → Prop) → Nat → List Int → AMem → Prop := fun X Q j v σ => am_sel [(am_v4 (fun t x1 x2 x3 σ => if t = 9790 then B_Model_sum_0 X Q x1 x2 x3 σ else False)), (am_v6 (fun t x1 x2 x3 s0 s1 σ => if t = 9790 then B_Model_sum_1 X Q x1 x2 x3 s0 s1 σ else False)), (am_v7 (fun t x1 x2 x3 s0 s1 s2 σ => if t = 9790 then B_Model_sum_2 X Q x1 x2 x3 s0 s1 s2 σ else False)), (am_v4 (fun t x1 x2 x3 σ => if t = 9790 then B_Model_sum_3 X Q x1 x2 x3 σ else False)), (am_v5 (fun t x1 x2 x3 s0 σ => if t = 9790 then B_Model_sum_4 X Q x1 x2 x3 s0 σ else False)), (am_v7 (fun t x1 x2 x3 s0 s1 s2 σ => if t = 9790 then B_Model_sum_5 X Q x1 x2 x3 s0 s1 s2 σ else False)), (am_v5 (fun t x1 x2 x3 s0 σ => if t = 9790 then B_Model_sum_6 X Q x1 x2 x3 s0 σ else False)), (am_v6 (fun t x1 x2 x3 s0 s1 σ => if t = 9790 then B_Model_sum_7 X Q x1 x2 x3 s0 s1 σ else False)), (am_v5 (fun t x3 x5 x6 x8 σ => if t = 9790 then B_Model_sum_8 X Q x3 x5 x6 x8 σ else False)), (am_v5 (fun t x3 x5 x8 s0 σ => if t = 9790 then B_Model_sum_9 X Q x3 x5 x8 s0 σ else False)), (am_v6 (fun t x3 x5 x8 s0 s1 σ => if t = 9790 then B_Model_sum_10 X Q x3 x5 x8 s0 s1 σ else False))] j v σ
def T_Model_sum : List Int → AMem → (Int → AMem → Prop) → Prop := am_T B_Model_sum
abbrev y_Model_sum : MethodName := ⟨"LinkHouseModel", "sum", "(III)J"⟩
def a_Model_sum : AC := (300, (y_Model_sum, prog_10_method_121_code, 9, (Option.some Jvm.ClassFile.FieldType.long)), [2, 0, 0, 0], 1, false, { frames := 4, cells := 0, slots := 0, locals := 124 }, T_Model_sum)
set_option maxRecDepth 100000 in
theorem ms_Model_sum : am_MSp a_Model_sum := am_ms_v 10135 9 10133 10134 8 rfl (by decide +kernel)
abbrev k_Model_sum : List AC := [a_Model_throwing, a_Model_sections, a_Model_isKept, a_Model_group, a_Model_size]
set_option maxRecDepth 100000 in
theorem s_Model_sum : (am_chkR { frames := 4, cells := 0, slots := 0, locals := 124 } k_Model_sum && am_chkN c_Model_sum { frames := 4, cells := 0, slots := 0, locals := 124 } && c_Model_sum.all (am_chk "LinkHouseModel" prog_10_method_121_code 9 (Option.some Jvm.ClassFile.FieldType.long) k_Model_sum) && c_Model_sum.all (am_chkL m_Model_sum) && decide (m_Model_sum[0]? = some (0, am_argp 0 [2, 0, 0, 0], [])) && decide (am_argn [2, 0, 0, 0] ≤ 9)) = true := by decide +kernel
set_option maxHeartbeats 150000 in
set_option maxRecDepth 100000 in
theorem h_Model_sum : ∀ X Q j v σ, B_Model_sum X Q j v σ → am_at GR k_Model_sum c_Model_sum m_Model_sum X Q 102 j v σ := fun X Q => am_sel_all (P := fun j v σ => am_at GR k_Model_sum c_Model_sum m_Model_sum X Q 102 j v σ) (⟨(am_v4_of (fun t x1 x2 x3 σ h => am_tk (fun e => by subst e; exact fun h => h) h)), ⟨(am_v6_of (fun t x1 x2 x3 s0 s1 σ h => am_tk (fun e => by subst e; exact fun h => h) h)), ⟨(am_v7_of (fun t x1 x2 x3 s0 s1 s2 σ h => am_tk (fun e => by subst e; exact fun h => h) h)), ⟨(am_v4_of (fun t x1 x2 x3 σ h => am_tk (fun e => by subst e; exact fun h => h) h)), ⟨(am_v5_of (fun t x1 x2 x3 s0 σ h => am_tk (fun e => by subst e; exact fun h => h) h)), ⟨(am_v7_of (fun t x1 x2 x3 s0 s1 s2 σ h => am_tk (fun e => by subst e; exact fun h => h) h)), ⟨(am_v5_of (fun t x1 x2 x3 s0 σ h => am_tk (fun e => by subst e; exact fun h => h) h)), ⟨(am_v6_of (fun t x1 x2 x3 s0 s1 σ h => am_tk (fun e => by subst e; exact fun h => h) h)), ⟨(am_v5_of (fun t x3 x5 x6 x8 σ h => am_tk (fun e => by subst e; exact fun h => h) h)), ⟨(am_v5_of (fun t x3 x5 x8 s0 σ h => am_tk (fun e => by subst e; exact fun h => h) h)), ⟨(am_v6_of (fun t x3 x5 x8 s0 s1 σ h => am_tk (fun e => by subst e; exact fun h => h) h)), trivial⟩⟩⟩⟩⟩⟩⟩⟩⟩⟩⟩)
set_option maxRecDepth 100000 in
theorem S_Model_sum (l : Launch) (w : AW) : am_S l w GR a_Model_sum := am_sound (rt := 1) (cal := k_Model_sum) 300 y_Model_sum prog_10_method_121_code 9 (Option.some Jvm.ClassFile.FieldType.long) [2, 0, 0, 0] false { frames := 4, cells := 0, slots := 0, locals := 124 } B_Model_sum "LinkHouseModel" c_Model_sum m_Model_sum 102 ms_Model_sum (by decide +kernel) rfl rfl (am_cal (S_Model_throwing l w) (am_cal (S_Model_sections l w) (am_cal (S_Model_isKept l w) (am_cal (S_Model_group l w) (am_cal (S_Model_size l w) (fun _ h => absurd h List.not_mem_nil)))))) s_Model_sum h_Model_sum
set_option maxRecDepth 100000 in
theorem of_Model_sum {Q : Int → AMem → Prop} {x1 x2 x3 : Int} {σ : AMem} (h : ∀ X : Nat → List Int → AMem → Prop, (∀ (x1 x2 x3 : Int) (σ : AMem), B_Model_sum_0 X Q x1 x2 x3 σ → X 0 [9790, x1, x2, x3] σ) → (∀ (x1 x2 x3 s0 s1 : Int) (σ : AMem), B_Model_sum_1 X Q x1 x2 x3 s0 s1 σ → X 1 [9790, x1, x2, x3, s0, s1] σ) → (∀ (x1 x2 x3 s0 s1 s2 : Int) (σ : AMem), B_Model_sum_2 X Q x1 x2 x3 s0 s1 s2 σ → X 2 [9790, x1, x2, x3, s0, s1, s2] σ) → (∀ (x1 x2 x3 : Int) (σ : AMem), B_Model_sum_3 X Q x1 x2 x3 σ → X 3 [9790, x1, x2, x3] σ) → (∀ (x1 x2 x3 s0 : Int) (σ : AMem), B_Model_sum_4 X Q x1 x2 x3 s0 σ → X 4 [9790, x1, x2, x3, s0] σ) → (∀ (x1 x2 x3 s0 s1 s2 : Int) (σ : AMem), B_Model_sum_5 X Q x1 x2 x3 s0 s1 s2 σ → X 5 [9790, x1, x2, x3, s0, s1, s2] σ) → (∀ (x1 x2 x3 s0 : Int) (σ : AMem), B_Model_sum_6 X Q x1 x2 x3 s0 σ → X 6 [9790, x1, x2, x3, s0] σ) → (∀ (x1 x2 x3 s0 s1 : Int) (σ : AMem), B_Model_sum_7 X Q x1 x2 x3 s0 s1 σ → X 7 [9790, x1, x2, x3, s0, s1] σ) → (∀ (x3 x5 x6 x8 : Int) (σ : AMem), B_Model_sum_8 X Q x3 x5 x6 x8 σ → X 8 [9790, x3, x5, x6, x8] σ) → (∀ (x3 x5 x8 s0 : Int) (σ : AMem), B_Model_sum_9 X Q x3 x5 x8 s0 σ → X 9 [9790, x3, x5, x8, s0] σ) → (∀ (x3 x5 x8 s0 s1 : Int) (σ : AMem), B_Model_sum_10 X Q x3 x5 x8 s0 s1 σ → X 10 [9790, x3, x5, x8, s0, s1] σ) → X 0 [9790, x1, x2, x3] σ) : T_Model_sum [9790, x1, x2, x3] σ Q := fun X hX => h X (fun x1 x2 x3 σ h => hX 0 [9790, x1, x2, x3] σ h) (fun x1 x2 x3 s0 s1 σ h => hX 1 [9790, x1, x2, x3, s0, s1] σ h) (fun x1 x2 x3 s0 s1 s2 σ h => hX 2 [9790, x1, x2, x3, s0, s1, s2] σ h) (fun x1 x2 x3 σ h => hX 3 [9790, x1, x2, x3] σ h) (fun x1 x2 x3 s0 σ h => hX 4 [9790, x1, x2, x3, s0] σ h) (fun x1 x2 x3 s0 s1 s2 σ h => hX 5 [9790, x1, x2, x3, s0, s1, s2] σ h) (fun x1 x2 x3 s0 σ h => hX 6 [9790, x1, x2, x3, s0] σ h) (fun x1 x2 x3 s0 s1 σ h => hX 7 [9790, x1, x2, x3, s0, s1] σ h) (fun x3 x5 x6 x8 σ h => hX 8 [9790, x3, x5, x6, x8] σ h) (fun x3 x5 x8 s0 σ h => hX 9 [9790, x3, x5, x8, s0] σ h) (fun x3 x5 x8 s0 s1 σ h => hX 10 [9790, x3, x5, x8, s0, s1] σ h)
def c_Model_part : List aE := [(0, 1, .aload_n 0, 1, 0, 0, []), (1, 0, .getfield 813, 3, 8, 123, [0, 0, 7072]), (4, 0, .bipush 22, 2, 0, 0, []), (6, 0, .if_icmp .ne 9, 3, 0, 0, []), (9, 0, .aload_n 0, 1, 0, 0, []), (10, 0, .iconst 1, 1, 0, 0, []), (11, 0, .putfield 816, 3, 8, 126, [0, 1, 7075]), (14, 0, .return_, 1, 0, 0, []), (15, 0, .aload_n 0, 1, 0, 0, []), (16, 0, .getfield 257, 3, 8, 117, [2, 0, 7066]), (19, 0, .bipush 24, 2, 0, 0, []), (21, 0, .iload_n 1, 1, 0, 0, []), (22, 0, .imul, 1, 0, 0, []), (23, 0, .iload_n 2, 1, 0, 0, []), (24, 0, .iadd, 1, 0, 0, []), (25, 0, .aload_n 0, 1, 0, 0, []), (26, 0, .getfield 813, 3, 8, 123, [0, 0, 7072]), (29, 0, .iastore, 1, 0, 0, []), (30, 0, .aload_n 0, 1, 0, 0, []), (31, 0, .getfield 266, 3, 8, 120, [2, 0, 7069]), (34, 0, .aload_n 0, 1, 0, 0, []), (35, 0, .getfield 813, 3, 8, 123, [0, 0, 7072]), (38, 0, .iload_n 1, 1, 0, 0, []), (39, 0, .iastore, 1, 0, 0, []), (40, 0, .aload_n 0, 1, 0, 0, []), (41, 0, .getfield 269, 3, 8, 121, [2, 0, 7070]), (44, 0, .aload_n 0, 1, 0, 0, []), (45, 0, .getfield 813, 3, 8, 123, [0, 0, 7072]), (48, 0, .iload_n 2, 1, 0, 0, []), (49, 0, .iastore, 1, 0, 0, []), (50, 0, .aload_n 0, 1, 0, 0, []), (51, 0, .dup, 1, 0, 0, []), (52, 0, .getfield 813, 3, 8, 123, [0, 0, 7072]), (55, 0, .iconst 1, 1, 0, 0, []), (56, 0, .iadd, 1, 0, 0, []), (57, 0, .putfield 813, 3, 8, 123, [0, 0, 7072]), (60, 0, .return_, 1, 0, 0, [])]
def m_Model_part : List aT := [(0, [(0, 2), (1, 0), (2, 0)], [])]
def B_Model_part_0 (X : Nat → List Int → AMem → Prop) (Q : Int → AMem → Prop) (x1 x2 : Int) (σ : AMem) : Prop :=
  (if (σ 9790 123) = 22 then
  am_let (am_upd σ 9790 126 1) (fun σ5 => Q 0 σ5)
  else
  am_r32 (24 * x1) ∧ am_r32 ((24 * x1) + x2) ∧ 0 ≤ ((24 * x1) + x2) ∧ ((24 * x1) + x2) < 1536 ∧ am_let (am_upd σ 9870 ((24 * x1) + x2) (σ 9790 123)) (fun σ1 => 0 ≤ (σ1 9790 123) ∧ (σ1 9790 123) < 24 ∧ am_let (am_upd σ1 9873 (σ1 9790 123) x1) (fun σ2 => 0 ≤ (σ2 9790 123) ∧ (σ2 9790 123) < 24 ∧ am_let (am_upd σ2 9874 (σ2 9790 123) x2) (fun σ3 => am_r32 ((σ3 9790 123) + 1) ∧ am_let (am_upd σ3 9790 123 ((σ3 9790 123) + 1)) (fun σ4 => Q 0 σ4)))))
def B_Model_part : (Nat → List Int → AMem → Prop) → (Int → AMem → Prop) → Nat → List Int → AMem → Prop := fun X Q j v σ => am_sel [(am_v3 (fun t x1 x2 σ => if t = 9790 then B_Model_part_0 X Q x1 x2 σ else False))] j v σ
def T_Model_part : List Int → AMem → (Int → AMem → Prop) → Prop := am_T B_Model_part
abbrev y_Model_part : MethodName := ⟨"LinkHouseModel", "part", "(II)V"⟩
def a_Model_part : AC := (301, (y_Model_part, prog_10_method_122_code, 3, (Option.none : Option Jvm.ClassFile.FieldType)), [2, 0, 0], 3, false, { frames := 0, cells := 0, slots := 0, locals := 0 }, T_Model_part)
set_option maxRecDepth 100000 in
theorem ms_Model_part : am_MSp a_Model_part := am_ms_v 10152 9 10151 112005 8 rfl (by decide +kernel)
abbrev k_Model_part : List AC := []
set_option maxRecDepth 100000 in
theorem s_Model_part : (am_chkR { frames := 0, cells := 0, slots := 0, locals := 0 } k_Model_part && am_chkN c_Model_part { frames := 0, cells := 0, slots := 0, locals := 0 } && c_Model_part.all (am_chk "LinkHouseModel" prog_10_method_122_code 3 (Option.none : Option Jvm.ClassFile.FieldType) k_Model_part) && c_Model_part.all (am_chkL m_Model_part) && decide (m_Model_part[0]? = some (0, am_argp 0 [2, 0, 0], [])) && decide (am_argn [2, 0, 0] ≤ 3)) = true := by decide +kernel
set_option maxHeartbeats 150000 in
set_option maxRecDepth 100000 in
theorem h_Model_part : ∀ X Q j v σ, B_Model_part X Q j v σ → am_at GR k_Model_part c_Model_part m_Model_part X Q 42 j v σ := fun X Q => am_sel_all (P := fun j v σ => am_at GR k_Model_part c_Model_part m_Model_part X Q 42 j v σ) (⟨(am_v3_of (fun t x1 x2 σ h => am_tk (fun e => by subst e; exact fun h => h) h)), trivial⟩)
set_option maxRecDepth 100000 in
theorem S_Model_part (l : Launch) (w : AW) : am_S l w GR a_Model_part := am_sound (rt := 3) (cal := k_Model_part) 301 y_Model_part prog_10_method_122_code 3 (Option.none : Option Jvm.ClassFile.FieldType) [2, 0, 0] false { frames := 0, cells := 0, slots := 0, locals := 0 } B_Model_part "LinkHouseModel" c_Model_part m_Model_part 42 ms_Model_part (by decide +kernel) rfl rfl (fun _ h => absurd h List.not_mem_nil) s_Model_part h_Model_part
set_option maxRecDepth 100000 in
theorem of_Model_part {Q : Int → AMem → Prop} {x1 x2 : Int} {σ : AMem} (h : ∀ X : Nat → List Int → AMem → Prop, (∀ (x1 x2 : Int) (σ : AMem), B_Model_part_0 X Q x1 x2 σ → X 0 [9790, x1, x2] σ) → X 0 [9790, x1, x2] σ) : T_Model_part [9790, x1, x2] σ Q := fun X hX => h X (fun x1 x2 σ h => hX 0 [9790, x1, x2] σ h)
set_option maxRecDepth 100000 in
theorem iff_Model_part {Q : Int → AMem → Prop} {X : Nat → List Int → AMem → Prop} {x1 x2 : Int} {σ : AMem} : T_Model_part [9790, x1, x2] σ Q ↔ B_Model_part_0 X Q x1 x2 σ := ⟨fun h => h (fun j v σ => B_Model_part X Q j v σ) (fun _ _ _ q => q), fun h _ hX => hX 0 _ _ h⟩
def c_Model_countParts : List aE := [(0, 1, .aload_n 0, 1, 0, 0, []), (1, 0, .iconst 1, 1, 0, 0, []), (2, 0, .putfield 813, 3, 8, 123, [0, 0, 7072]), (5, 0, .aload_n 0, 1, 0, 0, []), (6, 0, .iconst 0, 1, 0, 0, []), (7, 0, .putfield 816, 3, 8, 126, [0, 1, 7075]), (10, 0, .iconst 0, 1, 0, 0, []), (11, 0, .istore_n 1, 1, 0, 0, []), (12, 2, .iload_n 1, 1, 0, 0, []), (13, 0, .aload_n 0, 1, 0, 0, []), (14, 0, .getfield 531, 3, 8, 14, [0, 0, 6203]), (17, 0, .if_icmp .ge 94, 3, 0, 0, []), (20, 0, .aload_n 0, 1, 0, 0, []), (21, 0, .iload_n 1, 1, 0, 0, []), (22, 0, .invokevirtual 503, 3, 236, 8, [9124]), (25, 0, .istore_n 2, 1, 0, 0, []), (26, 0, .iconst 1, 1, 0, 0, []), (27, 0, .istore_n 3, 1, 0, 0, []), (28, 3, .iload_n 3, 1, 0, 0, []), (29, 0, .aload_n 0, 1, 0, 0, []), (30, 0, .iload_n 2, 1, 0, 0, []), (31, 0, .invokevirtual 313, 3, 185, 8, [8136]), (34, 0, .if_icmp .ge 24, 3, 0, 0, []), (37, 0, .aload_n 0, 1, 0, 0, []), (38, 0, .iload_n 1, 1, 0, 0, []), (39, 0, .iload_n 3, 1, 0, 0, []), (40, 0, .invokevirtual 591, 3, 255, 8, [9188]), (43, 0, .ifCond .eq 9, 3, 0, 0, []), (46, 0, .aload_n 0, 1, 0, 0, []), (47, 0, .iload_n 1, 1, 0, 0, []), (48, 0, .iload_n 3, 1, 0, 0, []), (49, 0, .invokevirtual 819, 3, 301, 8, [10149]), (52, 4, .iinc 3 1, 3, 0, 0, []), (55, 0, .goto (-27), 3, 0, 0, []), (58, 0, .iconst 1, 1, 0, 0, []), (59, 0, .istore_n 3, 1, 0, 0, []), (60, 5, .iload_n 3, 1, 0, 0, []), (61, 0, .aload_n 0, 1, 0, 0, []), (62, 0, .iload_n 2, 1, 0, 0, []), (63, 0, .invokevirtual 313, 3, 185, 8, [8136]), (66, 0, .if_icmp .ge 39, 3, 0, 0, []), (69, 0, .aload_n 0, 1, 0, 0, []), (70, 0, .iload_n 2, 1, 0, 0, []), (71, 0, .iload_n 3, 1, 0, 0, []), (72, 0, .invokevirtual 419, 3, 208, 8, [8235]), (75, 0, .ifCond .eq 24, 3, 0, 0, []), (78, 0, .aload_n 0, 1, 0, 0, []), (79, 0, .iload_n 1, 1, 0, 0, []), (80, 0, .aload_n 0, 1, 0, 0, []), (81, 0, .iload_n 2, 1, 0, 0, []), (82, 0, .iload_n 3, 1, 0, 0, []), (83, 0, .invokevirtual 408, 3, 207, 8, [9000]), (86, 0, .l2i, 1, 0, 0, []), (87, 0, .invokevirtual 591, 3, 255, 8, [9188]), (90, 0, .ifCond .eq 9, 3, 0, 0, []), (93, 0, .aload_n 0, 1, 0, 0, []), (94, 0, .iload_n 1, 1, 0, 0, []), (95, 0, .iload_n 3, 1, 0, 0, []), (96, 0, .invokevirtual 819, 3, 301, 8, [10149]), (99, 6, .iinc 3 1, 3, 0, 0, []), (102, 0, .goto (-42), 3, 0, 0, []), (105, 0, .iinc 1 1, 3, 0, 0, []), (108, 0, .goto (-96), 3, 0, 0, []), (111, 0, .return_, 1, 0, 0, [])]
def m_Model_countParts : List aT := [(0, [(0, 2)], []), (12, [(0, 2), (1, 0)], []), (28, [(0, 2), (1, 0), (2, 0), (3, 0)], []), (52, [(0, 2), (1, 0), (2, 0), (3, 0)], []), (60, [(0, 2), (1, 0), (2, 0), (3, 0)], []), (99, [(0, 2), (1, 0), (2, 0), (3, 0)], [])]
def B_Model_countParts_0 (X : Nat → List Int → AMem → Prop) (Q : Int → AMem → Prop) (σ : AMem) : Prop :=
  am_let (am_upd σ 9790 123 1) (fun σ1 => am_let (am_upd σ1 9790 126 0) (fun σ2 => X 1 [9790, 0] σ2))
def B_Model_countParts_1 (X : Nat → List Int → AMem → Prop) (Q : Int → AMem → Prop) (x1 : Int) (σ : AMem) : Prop :=
  (if x1 < (σ 9790 14) then
  T_Model_object [9790, x1] σ (fun r1 σ2 => X 2 [9790, x1, r1, 1] σ2)
  else
  Q 0 σ)
def B_Model_countParts_2 (X : Nat → List Int → AMem → Prop) (Q : Int → AMem → Prop) (x1 x2 x3 : Int) (σ : AMem) : Prop :=
  T_Model_sections [9790, x2] σ (fun r1 σ2 => (if x3 < r1 then
  T_Model_stays [9790, x1, x3] σ2 (fun r3 σ4 => (if r3 = 0 then
    X 3 [9790, x1, x2, x3] σ4
    else
    T_Model_part [9790, x1, x3] σ4 (fun r5 σ6 => X 3 [9790, x1, x2, x3] σ6)))
  else
  X 4 [9790, x1, x2, 1] σ2))
def B_Model_countParts_3 (X : Nat → List Int → AMem → Prop) (Q : Int → AMem → Prop) (x1 x2 x3 : Int) (σ : AMem) : Prop :=
  am_r32 (x3 + 1) ∧ X 2 [9790, x1, x2, (x3 + 1)] σ
def B_Model_countParts_4 (X : Nat → List Int → AMem → Prop) (Q : Int → AMem → Prop) (x1 x2 x3 : Int) (σ : AMem) : Prop :=
  T_Model_sections [9790, x2] σ (fun r1 σ2 => (if x3 < r1 then
  T_Model_isSites [9790, x2, x3] σ2 (fun r3 σ4 => (if r3 = 0 then
    X 5 [9790, x1, x2, x3] σ4
    else
    T_Model_info [9790, x2, x3] σ4 (fun r5 σ6 => T_Model_stays [9790, x1, (w32 r5)] σ6 (fun r7 σ8 => (if r7 = 0 then
      X 5 [9790, x1, x2, x3] σ8
      else
      T_Model_part [9790, x1, x3] σ8 (fun r9 σ10 => X 5 [9790, x1, x2, x3] σ10))))))
  else
  am_r32 (x1 + 1) ∧ X 1 [9790, (x1 + 1)] σ2))
def B_Model_countParts_5 (X : Nat → List Int → AMem → Prop) (Q : Int → AMem → Prop) (x1 x2 x3 : Int) (σ : AMem) : Prop :=
  am_r32 (x3 + 1) ∧ X 4 [9790, x1, x2, (x3 + 1)] σ
def B_Model_countParts : (Nat → List Int → AMem → Prop) → (Int → AMem → Prop) → Nat → List Int → AMem → Prop := fun X Q j v σ => am_sel [(am_v1 (fun t σ => if t = 9790 then B_Model_countParts_0 X Q σ else False)), (am_v2 (fun t x1 σ => if t = 9790 then B_Model_countParts_1 X Q x1 σ else False)), (am_v4 (fun t x1 x2 x3 σ => if t = 9790 then B_Model_countParts_2 X Q x1 x2 x3 σ else False)), (am_v4 (fun t x1 x2 x3 σ => if t = 9790 then B_Model_countParts_3 X Q x1 x2 x3 σ else False)), (am_v4 (fun t x1 x2 x3 σ => if t = 9790 then B_Model_countParts_4 X Q x1 x2 x3 σ else False)), (am_v4 (fun t x1 x2 x3 σ => if t = 9790 then B_Model_countParts_5 X Q x1 x2 x3 σ else False))] j v σ
def T_Model_countParts : List Int → AMem → (Int → AMem → Prop) → Prop := am_T B_Model_countParts
abbrev y_Model_countParts : MethodName := ⟨"LinkHouseModel", "countParts", "()V"⟩
def a_Model_countParts : AC := (302, (y_Model_countParts, prog_10_method_123_code, 4, (Option.none : Option Jvm.ClassFile.FieldType)), [2], 3, false, { frames := 5, cells := 0, slots := 0, locals := 153 }, T_Model_countParts)
set_option maxRecDepth 100000 in
theorem ms_Model_countParts : am_MSp a_Model_countParts := am_ms_v 10148 9 10147 112004 8 rfl (by decide +kernel)
abbrev k_Model_countParts : List AC := [a_Model_object, a_Model_sections, a_Model_stays, a_Model_part, a_Model_isSites, a_Model_info]
set_option maxRecDepth 100000 in
theorem s_Model_countParts : (am_chkR { frames := 5, cells := 0, slots := 0, locals := 153 } k_Model_countParts && am_chkN c_Model_countParts { frames := 5, cells := 0, slots := 0, locals := 153 } && c_Model_countParts.all (am_chk "LinkHouseModel" prog_10_method_123_code 4 (Option.none : Option Jvm.ClassFile.FieldType) k_Model_countParts) && c_Model_countParts.all (am_chkL m_Model_countParts) && decide (m_Model_countParts[0]? = some (0, am_argp 0 [2], [])) && decide (am_argn [2] ≤ 4)) = true := by decide +kernel
set_option maxHeartbeats 150000 in
set_option maxRecDepth 100000 in
theorem h_Model_countParts : ∀ X Q j v σ, B_Model_countParts X Q j v σ → am_at GR k_Model_countParts c_Model_countParts m_Model_countParts X Q 69 j v σ := fun X Q => am_sel_all (P := fun j v σ => am_at GR k_Model_countParts c_Model_countParts m_Model_countParts X Q 69 j v σ) (⟨(am_v1_of (fun t σ h => am_tk (fun e => by subst e; exact fun h => h) h)), ⟨(am_v2_of (fun t x1 σ h => am_tk (fun e => by subst e; exact fun h => h) h)), ⟨(am_v4_of (fun t x1 x2 x3 σ h => am_tk (fun e => by subst e; exact fun h => h) h)), ⟨(am_v4_of (fun t x1 x2 x3 σ h => am_tk (fun e => by subst e; exact fun h => h) h)), ⟨(am_v4_of (fun t x1 x2 x3 σ h => am_tk (fun e => by subst e; exact fun h => h) h)), ⟨(am_v4_of (fun t x1 x2 x3 σ h => am_tk (fun e => by subst e; exact fun h => h) h)), trivial⟩⟩⟩⟩⟩⟩)
set_option maxRecDepth 100000 in
theorem S_Model_countParts (l : Launch) (w : AW) : am_S l w GR a_Model_countParts := am_sound (rt := 3) (cal := k_Model_countParts) 302 y_Model_countParts prog_10_method_123_code 4 (Option.none : Option Jvm.ClassFile.FieldType) [2] false { frames := 5, cells := 0, slots := 0, locals := 153 } B_Model_countParts "LinkHouseModel" c_Model_countParts m_Model_countParts 69 ms_Model_countParts (by decide +kernel) rfl rfl (am_cal (S_Model_object l w) (am_cal (S_Model_sections l w) (am_cal (S_Model_stays l w) (am_cal (S_Model_part l w) (am_cal (S_Model_isSites l w) (am_cal (S_Model_info l w) (fun _ h => absurd h List.not_mem_nil))))))) s_Model_countParts h_Model_countParts
set_option maxRecDepth 100000 in
theorem of_Model_countParts {Q : Int → AMem → Prop} {σ : AMem} (h : ∀ X : Nat → List Int → AMem → Prop, (∀ (σ : AMem), B_Model_countParts_0 X Q σ → X 0 [9790] σ) → (∀ (x1 : Int) (σ : AMem), B_Model_countParts_1 X Q x1 σ → X 1 [9790, x1] σ) → (∀ (x1 x2 x3 : Int) (σ : AMem), B_Model_countParts_2 X Q x1 x2 x3 σ → X 2 [9790, x1, x2, x3] σ) → (∀ (x1 x2 x3 : Int) (σ : AMem), B_Model_countParts_3 X Q x1 x2 x3 σ → X 3 [9790, x1, x2, x3] σ) → (∀ (x1 x2 x3 : Int) (σ : AMem), B_Model_countParts_4 X Q x1 x2 x3 σ → X 4 [9790, x1, x2, x3] σ) → (∀ (x1 x2 x3 : Int) (σ : AMem), B_Model_countParts_5 X Q x1 x2 x3 σ → X 5 [9790, x1, x2, x3] σ) → X 0 [9790] σ) : T_Model_countParts [9790] σ Q := fun X hX => h X (fun σ h => hX 0 [9790] σ h) (fun x1 σ h => hX 1 [9790, x1] σ h) (fun x1 x2 x3 σ h => hX 2 [9790, x1, x2, x3] σ h) (fun x1 x2 x3 σ h => hX 3 [9790, x1, x2, x3] σ h) (fun x1 x2 x3 σ h => hX 4 [9790, x1, x2, x3] σ h) (fun x1 x2 x3 σ h => hX 5 [9790, x1, x2, x3] σ h)
def c_Model_numberName : List aE := [(0, 1, .aload_n 0, 1, 0, 0, []), (1, 0, .getfield 822, 3, 8, 125, [0, 0, 7074]), (4, 0, .bipush 64, 2, 0, 0, []), (6, 0, .if_icmp .ge 13, 3, 0, 0, []), (9, 0, .aload_n 0, 1, 0, 0, []), (10, 0, .getfield 272, 3, 8, 122, [2, 0, 7071]), (13, 0, .aload_n 0, 1, 0, 0, []), (14, 0, .getfield 822, 3, 8, 125, [0, 0, 7074]), (17, 0, .iload_n 1, 1, 0, 0, []), (18, 0, .iastore, 1, 0, 0, []), (19, 2, .aload_n 0, 1, 0, 0, []), (20, 0, .getfield 263, 3, 8, 119, [2, 0, 7068]), (23, 0, .iload_n 1, 1, 0, 0, []), (24, 0, .aload_n 0, 1, 0, 0, []), (25, 0, .getfield 822, 3, 8, 125, [0, 0, 7074]), (28, 0, .iastore, 1, 0, 0, []), (29, 0, .aload_n 0, 1, 0, 0, []), (30, 0, .dup, 1, 0, 0, []), (31, 0, .getfield 822, 3, 8, 125, [0, 0, 7074]), (34, 0, .iconst 1, 1, 0, 0, []), (35, 0, .iadd, 1, 0, 0, []), (36, 0, .putfield 822, 3, 8, 125, [0, 0, 7074]), (39, 0, .return_, 1, 0, 0, [])]
def m_Model_numberName : List aT := [(0, [(0, 2), (1, 0)], []), (19, [(0, 2), (1, 0)], [])]
def B_Model_numberName_0 (X : Nat → List Int → AMem → Prop) (Q : Int → AMem → Prop) (x1 : Int) (σ : AMem) : Prop :=
  (if (σ 9790 125) < 64 then
  0 ≤ (σ 9790 125) ∧ (σ 9790 125) < 64 ∧ am_let (am_upd σ 9875 (σ 9790 125) x1) (fun σ1 => X 1 [9790, x1] σ1)
  else
  X 1 [9790, x1] σ)
def B_Model_numberName_1 (X : Nat → List Int → AMem → Prop) (Q : Int → AMem → Prop) (x1 : Int) (σ : AMem) : Prop :=
  0 ≤ x1 ∧ x1 < 4096 ∧ am_let (am_upd σ 9872 x1 (σ 9790 125)) (fun σ1 => am_r32 ((σ1 9790 125) + 1) ∧ am_let (am_upd σ1 9790 125 ((σ1 9790 125) + 1)) (fun σ2 => Q 0 σ2))
def B_Model_numberName : (Nat → List Int → AMem → Prop) → (Int → AMem → Prop) → Nat → List Int → AMem → Prop := fun X Q j v σ => am_sel [(am_v2 (fun t x1 σ => if t = 9790 then B_Model_numberName_0 X Q x1 σ else False)), (am_v2 (fun t x1 σ => if t = 9790 then B_Model_numberName_1 X Q x1 σ else False))] j v σ
def T_Model_numberName : List Int → AMem → (Int → AMem → Prop) → Prop := am_T B_Model_numberName
abbrev y_Model_numberName : MethodName := ⟨"LinkHouseModel", "numberName", "(I)V"⟩
def a_Model_numberName : AC := (303, (y_Model_numberName, prog_10_method_124_code, 2, (Option.none : Option Jvm.ClassFile.FieldType)), [2, 0], 3, false, { frames := 0, cells := 0, slots := 0, locals := 0 }, T_Model_numberName)
set_option maxRecDepth 100000 in
theorem ms_Model_numberName : am_MSp a_Model_numberName := am_ms_v 10160 9 10159 112007 8 rfl (by decide +kernel)
abbrev k_Model_numberName : List AC := []
set_option maxRecDepth 100000 in
theorem s_Model_numberName : (am_chkR { frames := 0, cells := 0, slots := 0, locals := 0 } k_Model_numberName && am_chkN c_Model_numberName { frames := 0, cells := 0, slots := 0, locals := 0 } && c_Model_numberName.all (am_chk "LinkHouseModel" prog_10_method_124_code 2 (Option.none : Option Jvm.ClassFile.FieldType) k_Model_numberName) && c_Model_numberName.all (am_chkL m_Model_numberName) && decide (m_Model_numberName[0]? = some (0, am_argp 0 [2, 0], [])) && decide (am_argn [2, 0] ≤ 2)) = true := by decide +kernel
set_option maxHeartbeats 150000 in
set_option maxRecDepth 100000 in
theorem h_Model_numberName : ∀ X Q j v σ, B_Model_numberName X Q j v σ → am_at GR k_Model_numberName c_Model_numberName m_Model_numberName X Q 28 j v σ := fun X Q => am_sel_all (P := fun j v σ => am_at GR k_Model_numberName c_Model_numberName m_Model_numberName X Q 28 j v σ) (⟨(am_v2_of (fun t x1 σ h => am_tk (fun e => by subst e; exact fun h => h) h)), ⟨(am_v2_of (fun t x1 σ h => am_tk (fun e => by subst e; exact fun h => h) h)), trivial⟩⟩)
set_option maxRecDepth 100000 in
theorem S_Model_numberName (l : Launch) (w : AW) : am_S l w GR a_Model_numberName := am_sound (rt := 3) (cal := k_Model_numberName) 303 y_Model_numberName prog_10_method_124_code 2 (Option.none : Option Jvm.ClassFile.FieldType) [2, 0] false { frames := 0, cells := 0, slots := 0, locals := 0 } B_Model_numberName "LinkHouseModel" c_Model_numberName m_Model_numberName 28 ms_Model_numberName (by decide +kernel) rfl rfl (fun _ h => absurd h List.not_mem_nil) s_Model_numberName h_Model_numberName
set_option maxRecDepth 100000 in
theorem of_Model_numberName {Q : Int → AMem → Prop} {x1 : Int} {σ : AMem} (h : ∀ X : Nat → List Int → AMem → Prop, (∀ (x1 : Int) (σ : AMem), B_Model_numberName_0 X Q x1 σ → X 0 [9790, x1] σ) → (∀ (x1 : Int) (σ : AMem), B_Model_numberName_1 X Q x1 σ → X 1 [9790, x1] σ) → X 0 [9790, x1] σ) : T_Model_numberName [9790, x1] σ Q := fun X hX => h X (fun x1 σ h => hX 0 [9790, x1] σ h) (fun x1 σ h => hX 1 [9790, x1] σ h)
def c_Model_countSymbols : List aE := [(0, 1, .aload_n 0, 1, 0, 0, []), (1, 0, .iconst 1, 1, 0, 0, []), (2, 0, .putfield 822, 3, 8, 125, [0, 0, 7074]), (5, 0, .iconst 0, 1, 0, 0, []), (6, 0, .istore_n 1, 1, 0, 0, []), (7, 2, .iload_n 1, 1, 0, 0, []), (8, 0, .aload_n 0, 1, 0, 0, []), (9, 0, .getfield 531, 3, 8, 14, [0, 0, 6203]), (12, 0, .if_icmp .ge 71, 3, 0, 0, []), (15, 0, .iconst 1, 1, 0, 0, []), (16, 0, .istore_n 2, 1, 0, 0, []), (17, 3, .iload_n 2, 1, 0, 0, []), (18, 0, .aload_n 0, 1, 0, 0, []), (19, 0, .aload_n 0, 1, 0, 0, []), (20, 0, .iload_n 1, 1, 0, 0, []), (21, 0, .invokevirtual 503, 3, 236, 8, [9124]), (24, 0, .invokevirtual 366, 3, 198, 8, [8197]), (27, 0, .if_icmp .ge 50, 3, 0, 0, []), (30, 0, .aload_n 0, 1, 0, 0, []), (31, 0, .aload_n 0, 1, 0, 0, []), (32, 0, .iload_n 1, 1, 0, 0, []), (33, 0, .invokevirtual 503, 3, 236, 8, [9124]), (36, 0, .iload_n 2, 1, 0, 0, []), (37, 0, .invokevirtual 375, 3, 201, 8, [8213]), (40, 0, .ifCond .eq 6, 3, 0, 0, []), (43, 0, .goto 28, 3, 0, 0, []), (46, 0, .aload_n 0, 1, 0, 0, []), (47, 0, .getfield 260, 3, 8, 118, [2, 0, 7067]), (50, 0, .bipush 64, 2, 0, 0, []), (52, 0, .iload_n 1, 1, 0, 0, []), (53, 0, .imul, 1, 0, 0, []), (54, 0, .iload_n 2, 1, 0, 0, []), (55, 0, .iadd, 1, 0, 0, []), (56, 0, .aload_n 0, 1, 0, 0, []), (57, 0, .getfield 822, 3, 8, 125, [0, 0, 7074]), (60, 0, .iastore, 1, 0, 0, []), (61, 0, .aload_n 0, 1, 0, 0, []), (62, 0, .dup, 1, 0, 0, []), (63, 0, .getfield 822, 3, 8, 125, [0, 0, 7074]), (66, 0, .iconst 1, 1, 0, 0, []), (67, 0, .iadd, 1, 0, 0, []), (68, 0, .putfield 822, 3, 8, 125, [0, 0, 7074]), (71, 4, .iinc 2 1, 3, 0, 0, []), (74, 0, .goto (-57), 3, 0, 0, []), (77, 0, .iinc 1 1, 3, 0, 0, []), (80, 0, .goto (-73), 3, 0, 0, []), (83, 0, .aload_n 0, 1, 0, 0, []), (84, 0, .aload_n 0, 1, 0, 0, []), (85, 0, .getfield 822, 3, 8, 125, [0, 0, 7074]), (88, 0, .putfield 825, 3, 8, 124, [0, 0, 7073]), (91, 0, .iconst 0, 1, 0, 0, []), (92, 0, .istore_n 1, 1, 0, 0, []), (93, 5, .iload_n 1, 1, 0, 0, []), (94, 0, .aload_n 0, 1, 0, 0, []), (95, 0, .getfield 489, 3, 8, 48, [0, 0, 6237]), (98, 0, .if_icmp .ge 19, 3, 0, 0, []), (101, 0, .aload_n 0, 1, 0, 0, []), (102, 0, .aload_n 0, 1, 0, 0, []), (103, 0, .getfield 124, 3, 8, 49, [2, 0, 6238]), (106, 0, .iload_n 1, 1, 0, 0, []), (107, 0, .iaload, 1, 0, 0, []), (108, 0, .invokevirtual 828, 3, 303, 8, [10157]), (111, 0, .iinc 1 1, 3, 0, 0, []), (114, 0, .goto (-21), 3, 0, 0, []), (117, 0, .iconst 0, 1, 0, 0, []), (118, 0, .istore_n 1, 1, 0, 0, []), (119, 6, .iload_n 1, 1, 0, 0, []), (120, 0, .aload_n 0, 1, 0, 0, []), (121, 0, .getfield 473, 3, 8, 20, [0, 0, 6209]), (124, 0, .if_icmp .ge 33, 3, 0, 0, []), (127, 0, .aload_n 0, 1, 0, 0, []), (128, 0, .getfield 60, 3, 8, 23, [2, 0, 6212]), (131, 0, .iload_n 1, 1, 0, 0, []), (132, 0, .iaload, 1, 0, 0, []), (133, 0, .ifCond .eq 13, 3, 0, 0, []), (136, 0, .aload_n 0, 1, 0, 0, []), (137, 0, .getfield 60, 3, 8, 23, [2, 0, 6212]), (140, 0, .iload_n 1, 1, 0, 0, []), (141, 0, .iaload, 1, 0, 0, []), (142, 0, .iconst 4, 1, 0, 0, []), (143, 0, .if_icmp .ne 8, 3, 0, 0, []), (146, 7, .aload_n 0, 1, 0, 0, []), (147, 0, .iload_n 1, 1, 0, 0, []), (148, 0, .invokevirtual 828, 3, 303, 8, [10157]), (151, 8, .iinc 1 1, 3, 0, 0, []), (154, 0, .goto (-35), 3, 0, 0, []), (157, 0, .return_, 1, 0, 0, [])]
def m_Model_countSymbols : List aT := [(0, [(0, 2)], []), (7, [(0, 2), (1, 0)], []), (17, [(0, 2), (1, 0), (2, 0)], []), (71, [(0, 2), (1, 0), (2, 0)], []), (93, [(0, 2), (1, 0)], []), (119, [(0, 2), (1, 0)], []), (146, [(0, 2), (1, 0)], []), (151, [(0, 2), (1, 0)], [])]
def B_Model_countSymbols_0 (X : Nat → List Int → AMem → Prop) (Q : Int → AMem → Prop) (σ : AMem) : Prop :=
  am_let (am_upd σ 9790 125 1) (fun σ1 => X 1 [9790, 0] σ1)
def B_Model_countSymbols_1 (X : Nat → List Int → AMem → Prop) (Q : Int → AMem → Prop) (x1 : Int) (σ : AMem) : Prop :=
  (if x1 < (σ 9790 14) then
  X 2 [9790, x1, 1] σ
  else
  am_let (am_upd σ 9790 124 (σ 9790 125)) (fun σ1 => X 4 [9790, 0] σ1))
def B_Model_countSymbols_2 (X : Nat → List Int → AMem → Prop) (Q : Int → AMem → Prop) (x1 x2 : Int) (σ : AMem) : Prop :=
  T_Model_object [9790, x1] σ (fun r1 σ2 => T_Model_symbolMany [9790, r1] σ2 (fun r3 σ4 => (if x2 < r3 then
  T_Model_object [9790, x1] σ4 (fun r5 σ6 => T_Model_bind [9790, r5, x2] σ6 (fun r7 σ8 => (if r7 = 0 then
    am_r32 (64 * x1) ∧ am_r32 ((64 * x1) + x2) ∧ 0 ≤ ((64 * x1) + x2) ∧ ((64 * x1) + x2) < 4096 ∧ am_let (am_upd σ8 9871 ((64 * x1) + x2) (σ8 9790 125)) (fun σ9 => am_r32 ((σ9 9790 125) + 1) ∧ am_let (am_upd σ9 9790 125 ((σ9 9790 125) + 1)) (fun σ10 => X 3 [9790, x1, x2] σ10))
    else
    X 3 [9790, x1, x2] σ8)))
  else
  am_r32 (x1 + 1) ∧ X 1 [9790, (x1 + 1)] σ4)))
def B_Model_countSymbols_3 (X : Nat → List Int → AMem → Prop) (Q : Int → AMem → Prop) (x1 x2 : Int) (σ : AMem) : Prop :=
  am_r32 (x2 + 1) ∧ X 2 [9790, x1, (x2 + 1)] σ
def B_Model_countSymbols_4 (X : Nat → List Int → AMem → Prop) (Q : Int → AMem → Prop) (x1 : Int) (σ : AMem) : Prop :=
  (if x1 < (σ 9790 48) then
  0 ≤ x1 ∧ x1 < 4096 ∧ T_Model_numberName [9790, (σ 9826 x1)] σ (fun r1 σ2 => am_r32 (x1 + 1) ∧ X 4 [9790, (x1 + 1)] σ2)
  else
  X 5 [9790, 0] σ)
def B_Model_countSymbols_5 (X : Nat → List Int → AMem → Prop) (Q : Int → AMem → Prop) (x1 : Int) (σ : AMem) : Prop :=
  (if x1 < (σ 9790 20) then
  0 ≤ x1 ∧ x1 < 4096 ∧ (if (σ 9805 x1) = 0 then
    X 6 [9790, x1] σ
    else
    0 ≤ x1 ∧ x1 < 4096 ∧ (if (σ 9805 x1) = 4 then
      X 6 [9790, x1] σ
      else
      X 7 [9790, x1] σ))
  else
  Q 0 σ)
def B_Model_countSymbols_6 (X : Nat → List Int → AMem → Prop) (Q : Int → AMem → Prop) (x1 : Int) (σ : AMem) : Prop :=
  T_Model_numberName [9790, x1] σ (fun r1 σ2 => X 7 [9790, x1] σ2)
def B_Model_countSymbols_7 (X : Nat → List Int → AMem → Prop) (Q : Int → AMem → Prop) (x1 : Int) (σ : AMem) : Prop :=
  am_r32 (x1 + 1) ∧ X 5 [9790, (x1 + 1)] σ
def B_Model_countSymbols : (Nat → List Int → AMem → Prop) → (Int → AMem → Prop) → Nat → List Int → AMem → Prop := fun X Q j v σ => am_sel [(am_v1 (fun t σ => if t = 9790 then B_Model_countSymbols_0 X Q σ else False)), (am_v2 (fun t x1 σ => if t = 9790 then B_Model_countSymbols_1 X Q x1 σ else False)), (am_v3 (fun t x1 x2 σ => if t = 9790 then B_Model_countSymbols_2 X Q x1 x2 σ else False)), (am_v3 (fun t x1 x2 σ => if t = 9790 then B_Model_countSymbols_3 X Q x1 x2 σ else False)), (am_v2 (fun t x1 σ => if t = 9790 then B_Model_countSymbols_4 X Q x1 σ else False)), (am_v2 (fun t x1 σ => if t = 9790 then B_Model_countSymbols_5 X Q x1 σ else False)), (am_v2 (fun t x1 σ => if t = 9790 then B_Model_countSymbols_6 X Q x1 σ else False)), (am_v2 (fun t x1 σ => if t = 9790 then B_Model_countSymbols_7 X Q x1 σ else False))] j v σ
def T_Model_countSymbols : List Int → AMem → (Int → AMem → Prop) → Prop := am_T B_Model_countSymbols
abbrev y_Model_countSymbols : MethodName := ⟨"LinkHouseModel", "countSymbols", "()V"⟩
def a_Model_countSymbols : AC := (304, (y_Model_countSymbols, prog_10_method_125_code, 3, (Option.none : Option Jvm.ClassFile.FieldType)), [2], 3, false, { frames := 6, cells := 0, slots := 0, locals := 183 }, T_Model_countSymbols)
set_option maxRecDepth 100000 in
theorem ms_Model_countSymbols : am_MSp a_Model_countSymbols := am_ms_v 10156 9 10155 112006 8 rfl (by decide +kernel)
abbrev k_Model_countSymbols : List AC := [a_Model_object, a_Model_symbolMany, a_Model_bind, a_Model_numberName]
set_option maxRecDepth 100000 in
theorem s_Model_countSymbols : (am_chkR { frames := 6, cells := 0, slots := 0, locals := 183 } k_Model_countSymbols && am_chkN c_Model_countSymbols { frames := 6, cells := 0, slots := 0, locals := 183 } && c_Model_countSymbols.all (am_chk "LinkHouseModel" prog_10_method_125_code 3 (Option.none : Option Jvm.ClassFile.FieldType) k_Model_countSymbols) && c_Model_countSymbols.all (am_chkL m_Model_countSymbols) && decide (m_Model_countSymbols[0]? = some (0, am_argp 0 [2], [])) && decide (am_argn [2] ≤ 3)) = true := by decide +kernel
set_option maxHeartbeats 150000 in
set_option maxRecDepth 100000 in
theorem h_Model_countSymbols : ∀ X Q j v σ, B_Model_countSymbols X Q j v σ → am_at GR k_Model_countSymbols c_Model_countSymbols m_Model_countSymbols X Q 92 j v σ := fun X Q => am_sel_all (P := fun j v σ => am_at GR k_Model_countSymbols c_Model_countSymbols m_Model_countSymbols X Q 92 j v σ) (⟨(am_v1_of (fun t σ h => am_tk (fun e => by subst e; exact fun h => h) h)), ⟨(am_v2_of (fun t x1 σ h => am_tk (fun e => by subst e; exact fun h => h) h)), ⟨(am_v3_of (fun t x1 x2 σ h => am_tk (fun e => by subst e; exact fun h => h) h)), ⟨(am_v3_of (fun t x1 x2 σ h => am_tk (fun e => by subst e; exact fun h => h) h)), ⟨(am_v2_of (fun t x1 σ h => am_tk (fun e => by subst e; exact fun h => h) h)), ⟨(am_v2_of (fun t x1 σ h => am_tk (fun e => by subst e; exact fun h => h) h)), ⟨(am_v2_of (fun t x1 σ h => am_tk (fun e => by subst e; exact fun h => h) h)), ⟨(am_v2_of (fun t x1 σ h => am_tk (fun e => by subst e; exact fun h => h) h)), trivial⟩⟩⟩⟩⟩⟩⟩⟩)
set_option maxRecDepth 100000 in
theorem S_Model_countSymbols (l : Launch) (w : AW) : am_S l w GR a_Model_countSymbols := am_sound (rt := 3) (cal := k_Model_countSymbols) 304 y_Model_countSymbols prog_10_method_125_code 3 (Option.none : Option Jvm.ClassFile.FieldType) [2] false { frames := 6, cells := 0, slots := 0, locals := 183 } B_Model_countSymbols "LinkHouseModel" c_Model_countSymbols m_Model_countSymbols 92 ms_Model_countSymbols (by decide +kernel) rfl rfl (am_cal (S_Model_object l w) (am_cal (S_Model_symbolMany l w) (am_cal (S_Model_bind l w) (am_cal (S_Model_numberName l w) (fun _ h => absurd h List.not_mem_nil))))) s_Model_countSymbols h_Model_countSymbols
set_option maxRecDepth 100000 in
theorem of_Model_countSymbols {Q : Int → AMem → Prop} {σ : AMem} (h : ∀ X : Nat → List Int → AMem → Prop, (∀ (σ : AMem), B_Model_countSymbols_0 X Q σ → X 0 [9790] σ) → (∀ (x1 : Int) (σ : AMem), B_Model_countSymbols_1 X Q x1 σ → X 1 [9790, x1] σ) → (∀ (x1 x2 : Int) (σ : AMem), B_Model_countSymbols_2 X Q x1 x2 σ → X 2 [9790, x1, x2] σ) → (∀ (x1 x2 : Int) (σ : AMem), B_Model_countSymbols_3 X Q x1 x2 σ → X 3 [9790, x1, x2] σ) → (∀ (x1 : Int) (σ : AMem), B_Model_countSymbols_4 X Q x1 σ → X 4 [9790, x1] σ) → (∀ (x1 : Int) (σ : AMem), B_Model_countSymbols_5 X Q x1 σ → X 5 [9790, x1] σ) → (∀ (x1 : Int) (σ : AMem), B_Model_countSymbols_6 X Q x1 σ → X 6 [9790, x1] σ) → (∀ (x1 : Int) (σ : AMem), B_Model_countSymbols_7 X Q x1 σ → X 7 [9790, x1] σ) → X 0 [9790] σ) : T_Model_countSymbols [9790] σ Q := fun X hX => h X (fun σ h => hX 0 [9790] σ h) (fun x1 σ h => hX 1 [9790, x1] σ h) (fun x1 x2 σ h => hX 2 [9790, x1, x2] σ h) (fun x1 x2 σ h => hX 3 [9790, x1, x2] σ h) (fun x1 σ h => hX 4 [9790, x1] σ h) (fun x1 σ h => hX 5 [9790, x1] σ h) (fun x1 σ h => hX 6 [9790, x1] σ h) (fun x1 σ h => hX 7 [9790, x1] σ h)
def c_Model_isPart : List aE := [(0, 1, .aload_n 0, 1, 0, 0, []), (1, 0, .aload_n 0, 1, 0, 0, []), (2, 0, .aload_n 0, 1, 0, 0, []), (3, 0, .getfield 266, 3, 8, 120, [2, 0, 7069]), (6, 0, .iload_n 1, 1, 0, 0, []), (7, 0, .iaload, 1, 0, 0, []), (8, 0, .invokevirtual 503, 3, 236, 8, [9124]), (11, 0, .aload_n 0, 1, 0, 0, []), (12, 0, .getfield 269, 3, 8, 121, [2, 0, 7070]), (15, 0, .iload_n 1, 1, 0, 0, []), (16, 0, .iaload, 1, 0, 0, []), (17, 0, .invokevirtual 299, 3, 188, 8, [8143]), (20, 0, .lload_n 2, 1, 0, 0, []), (21, 0, .lcmp, 1, 0, 0, []), (22, 0, .ifCond .ne 7, 3, 0, 0, []), (25, 0, .iconst 1, 1, 0, 0, []), (26, 0, .goto 4, 3, 0, 0, []), (29, 0, .iconst 0, 1, 0, 0, []), (30, 0, .ireturn, 1, 1, 0, [])]
def m_Model_isPart : List aT := [(0, [(0, 2), (1, 0), (2, 1)], [])]
def B_Model_isPart_0 (X : Nat → List Int → AMem → Prop) (Q : Int → AMem → Prop) (x1 x2 : Int) (σ : AMem) : Prop :=
  0 ≤ x1 ∧ x1 < 24 ∧ T_Model_object [9790, (σ 9873 x1)] σ (fun r1 σ2 => 0 ≤ x1 ∧ x1 < 24 ∧ T_Model_type [9790, r1, (σ2 9874 x1)] σ2 (fun r3 σ4 => (if r3 = x2 then
  Q 1 σ4
  else
  Q 0 σ4)))
def B_Model_isPart : (Nat → List Int → AMem → Prop) → (Int → AMem → Prop) → Nat → List Int → AMem → Prop := fun X Q j v σ => am_sel [(am_v3 (fun t x1 x2 σ => if t = 9790 then B_Model_isPart_0 X Q x1 x2 σ else False))] j v σ
def T_Model_isPart : List Int → AMem → (Int → AMem → Prop) → Prop := am_T B_Model_isPart
abbrev y_Model_isPart : MethodName := ⟨"LinkHouseModel", "isPart", "(IJ)Z"⟩
def a_Model_isPart : AC := (305, (y_Model_isPart, prog_10_method_126_code, 4, (Option.some Jvm.ClassFile.FieldType.boolean)), [2, 0, 1], 0, false, { frames := 3, cells := 0, slots := 0, locals := 93 }, T_Model_isPart)
set_option maxRecDepth 100000 in
theorem ms_Model_isPart : am_MSp a_Model_isPart := am_ms_v 10176 9 10175 112011 8 rfl (by decide +kernel)
abbrev k_Model_isPart : List AC := [a_Model_object, a_Model_type]
set_option maxRecDepth 100000 in
theorem s_Model_isPart : (am_chkR { frames := 3, cells := 0, slots := 0, locals := 93 } k_Model_isPart && am_chkN c_Model_isPart { frames := 3, cells := 0, slots := 0, locals := 93 } && c_Model_isPart.all (am_chk "LinkHouseModel" prog_10_method_126_code 4 (Option.some Jvm.ClassFile.FieldType.boolean) k_Model_isPart) && c_Model_isPart.all (am_chkL m_Model_isPart) && decide (m_Model_isPart[0]? = some (0, am_argp 0 [2, 0, 1], [])) && decide (am_argn [2, 0, 1] ≤ 4)) = true := by decide +kernel
set_option maxHeartbeats 150000 in
set_option maxRecDepth 100000 in
theorem h_Model_isPart : ∀ X Q j v σ, B_Model_isPart X Q j v σ → am_at GR k_Model_isPart c_Model_isPart m_Model_isPart X Q 24 j v σ := fun X Q => am_sel_all (P := fun j v σ => am_at GR k_Model_isPart c_Model_isPart m_Model_isPart X Q 24 j v σ) (⟨(am_v3_of (fun t x1 x2 σ h => am_tk (fun e => by subst e; exact fun h => h) h)), trivial⟩)
set_option maxRecDepth 100000 in
theorem S_Model_isPart (l : Launch) (w : AW) : am_S l w GR a_Model_isPart := am_sound (rt := 0) (cal := k_Model_isPart) 305 y_Model_isPart prog_10_method_126_code 4 (Option.some Jvm.ClassFile.FieldType.boolean) [2, 0, 1] false { frames := 3, cells := 0, slots := 0, locals := 93 } B_Model_isPart "LinkHouseModel" c_Model_isPart m_Model_isPart 24 ms_Model_isPart (by decide +kernel) rfl rfl (am_cal (S_Model_object l w) (am_cal (S_Model_type l w) (fun _ h => absurd h List.not_mem_nil))) s_Model_isPart h_Model_isPart
set_option maxRecDepth 100000 in
theorem of_Model_isPart {Q : Int → AMem → Prop} {x1 x2 : Int} {σ : AMem} (h : ∀ X : Nat → List Int → AMem → Prop, (∀ (x1 x2 : Int) (σ : AMem), B_Model_isPart_0 X Q x1 x2 σ → X 0 [9790, x1, x2] σ) → X 0 [9790, x1, x2] σ) : T_Model_isPart [9790, x1, x2] σ Q := fun X hX => h X (fun x1 x2 σ h => hX 0 [9790, x1, x2] σ h)
set_option maxRecDepth 100000 in
theorem iff_Model_isPart {Q : Int → AMem → Prop} {X : Nat → List Int → AMem → Prop} {x1 x2 : Int} {σ : AMem} : T_Model_isPart [9790, x1, x2] σ Q ↔ B_Model_isPart_0 X Q x1 x2 σ := ⟨fun h => h (fun j v σ => B_Model_isPart X Q j v σ) (fun _ _ _ q => q), fun h _ hX => hX 0 _ _ h⟩
def c_Model_partSize : List aE := [(0, 1, .aload_n 0, 1, 0, 0, []), (1, 0, .iload_n 1, 1, 0, 0, []), (2, 0, .ldc2_w 302, 3, 8, 0, [8155]), (5, 0, .invokevirtual 831, 3, 305, 8, [10173]), (8, 0, .ifCond .eq 7, 3, 0, 0, []), (11, 0, .iconst 0, 1, 0, 0, []), (12, 0, .goto 24, 3, 0, 0, []), (15, 0, .aload_n 0, 1, 0, 0, []), (16, 0, .aload_n 0, 1, 0, 0, []), (17, 0, .aload_n 0, 1, 0, 0, []), (18, 0, .getfield 266, 3, 8, 120, [2, 0, 7069]), (21, 0, .iload_n 1, 1, 0, 0, []), (22, 0, .iaload, 1, 0, 0, []), (23, 0, .invokevirtual 503, 3, 236, 8, [9124]), (26, 0, .aload_n 0, 1, 0, 0, []), (27, 0, .getfield 269, 3, 8, 121, [2, 0, 7070]), (30, 0, .iload_n 1, 1, 0, 0, []), (31, 0, .iaload, 1, 0, 0, []), (32, 0, .invokevirtual 320, 3, 190, 8, [8160]), (35, 0, .l2i, 1, 0, 0, []), (36, 0, .ireturn, 1, 0, 0, [])]
def m_Model_partSize : List aT := [(0, [(0, 2), (1, 0)], [])]
def B_Model_partSize_0 (X : Nat → List Int → AMem → Prop) (Q : Int → AMem → Prop) (x1 : Int) (σ : AMem) : Prop :=
  T_Model_isPart [9790, x1, 8] σ (fun r1 σ2 => (if r1 = 0 then
  0 ≤ x1 ∧ x1 < 24 ∧ T_Model_object [9790, (σ2 9873 x1)] σ2 (fun r3 σ4 => 0 ≤ x1 ∧ x1 < 24 ∧ T_Model_size [9790, r3, (σ4 9874 x1)] σ4 (fun r5 σ6 => Q (w32 r5) σ6))
  else
  Q 0 σ2))
def B_Model_partSize : (Nat → List Int → AMem → Prop) → (Int → AMem → Prop) → Nat → List Int → AMem → Prop := fun X Q j v σ => am_sel [(am_v2 (fun t x1 σ => if t = 9790 then B_Model_partSize_0 X Q x1 σ else False))] j v σ
def T_Model_partSize : List Int → AMem → (Int → AMem → Prop) → Prop := am_T B_Model_partSize
abbrev y_Model_partSize : MethodName := ⟨"LinkHouseModel", "partSize", "(I)I"⟩
def a_Model_partSize : AC := (306, (y_Model_partSize, prog_10_method_127_code, 2, (Option.some Jvm.ClassFile.FieldType.int)), [2, 0], 0, false, { frames := 4, cells := 0, slots := 0, locals := 124 }, T_Model_partSize)
set_option maxRecDepth 100000 in
theorem ms_Model_partSize : am_MSp a_Model_partSize := am_ms_v 10172 9 10171 112010 8 rfl (by decide +kernel)
abbrev k_Model_partSize : List AC := [a_Model_isPart, a_Model_object, a_Model_size]
set_option maxRecDepth 100000 in
theorem s_Model_partSize : (am_chkR { frames := 4, cells := 0, slots := 0, locals := 124 } k_Model_partSize && am_chkN c_Model_partSize { frames := 4, cells := 0, slots := 0, locals := 124 } && c_Model_partSize.all (am_chk "LinkHouseModel" prog_10_method_127_code 2 (Option.some Jvm.ClassFile.FieldType.int) k_Model_partSize) && c_Model_partSize.all (am_chkL m_Model_partSize) && decide (m_Model_partSize[0]? = some (0, am_argp 0 [2, 0], [])) && decide (am_argn [2, 0] ≤ 2)) = true := by decide +kernel
set_option maxHeartbeats 150000 in
set_option maxRecDepth 100000 in
theorem h_Model_partSize : ∀ X Q j v σ, B_Model_partSize X Q j v σ → am_at GR k_Model_partSize c_Model_partSize m_Model_partSize X Q 26 j v σ := fun X Q => am_sel_all (P := fun j v σ => am_at GR k_Model_partSize c_Model_partSize m_Model_partSize X Q 26 j v σ) (⟨(am_v2_of (fun t x1 σ h => am_tk (fun e => by subst e; exact fun h => h) h)), trivial⟩)
set_option maxRecDepth 100000 in
theorem S_Model_partSize (l : Launch) (w : AW) : am_S l w GR a_Model_partSize := am_sound (rt := 0) (cal := k_Model_partSize) 306 y_Model_partSize prog_10_method_127_code 2 (Option.some Jvm.ClassFile.FieldType.int) [2, 0] false { frames := 4, cells := 0, slots := 0, locals := 124 } B_Model_partSize "LinkHouseModel" c_Model_partSize m_Model_partSize 26 ms_Model_partSize (by decide +kernel) rfl rfl (am_cal (S_Model_isPart l w) (am_cal (S_Model_object l w) (am_cal (S_Model_size l w) (fun _ h => absurd h List.not_mem_nil)))) s_Model_partSize h_Model_partSize
set_option maxRecDepth 100000 in
theorem of_Model_partSize {Q : Int → AMem → Prop} {x1 : Int} {σ : AMem} (h : ∀ X : Nat → List Int → AMem → Prop, (∀ (x1 : Int) (σ : AMem), B_Model_partSize_0 X Q x1 σ → X 0 [9790, x1] σ) → X 0 [9790, x1] σ) : T_Model_partSize [9790, x1] σ Q := fun X hX => h X (fun x1 σ h => hX 0 [9790, x1] σ h)
set_option maxRecDepth 100000 in
theorem iff_Model_partSize {Q : Int → AMem → Prop} {X : Nat → List Int → AMem → Prop} {x1 : Int} {σ : AMem} : T_Model_partSize [9790, x1] σ Q ↔ B_Model_partSize_0 X Q x1 σ := ⟨fun h => h (fun j v σ => B_Model_partSize X Q j v σ) (fun _ _ _ q => q), fun h _ hX => hX 0 _ _ h⟩
def c_Model_placeOf : List aE := [(0, 1, .bipush 64, 2, 0, 0, []), (2, 0, .istore_n 2, 1, 0, 0, []), (3, 0, .iconst 1, 1, 0, 0, []), (4, 0, .istore_n 3, 1, 0, 0, []), (5, 2, .iload_n 3, 1, 0, 0, []), (6, 0, .iload_n 1, 1, 0, 0, []), (7, 0, .if_icmp .ge 39, 3, 0, 0, []), (10, 0, .aload_n 0, 1, 0, 0, []), (11, 0, .iload_n 2, 1, 0, 0, []), (12, 0, .invokevirtual 802, 3, 295, 8, [10115]), (15, 0, .iload_n 3, 1, 0, 0, []), (16, 0, .aload_n 0, 1, 0, 0, []), (17, 0, .getfield 813, 3, 8, 123, [0, 0, 7072]), (20, 0, .if_icmp .ge 11, 3, 0, 0, []), (23, 0, .aload_n 0, 1, 0, 0, []), (24, 0, .iload_n 3, 1, 0, 0, []), (25, 0, .invokevirtual 835, 3, 306, 8, [10169]), (28, 0, .goto 10, 3, 0, 0, []), (31, 0, .bipush 24, 2, 0, 0, []), (33, 0, .aload_n 0, 1, 0, 0, []), (34, 0, .getfield 822, 3, 8, 125, [0, 0, 7074]), (37, 0, .imul, 1, 0, 0, []), (38, 3, .iadd, 1, 0, 0, []), (39, 0, .istore_n 2, 1, 0, 0, []), (40, 0, .iinc 3 1, 3, 0, 0, []), (43, 0, .goto (-38), 3, 0, 0, []), (46, 0, .aload_n 0, 1, 0, 0, []), (47, 0, .iload_n 2, 1, 0, 0, []), (48, 0, .invokevirtual 802, 3, 295, 8, [10115]), (51, 0, .ireturn, 1, 0, 0, [])]
def m_Model_placeOf : List aT := [(0, [(0, 2), (1, 0)], []), (5, [(0, 2), (1, 0), (2, 0), (3, 0)], []), (38, [(0, 2), (1, 0), (3, 0)], [0, 0])]
def B_Model_placeOf_0 (X : Nat → List Int → AMem → Prop) (Q : Int → AMem → Prop) (x1 : Int) (σ : AMem) : Prop :=
  X 1 [9790, x1, 64, 1] σ
def B_Model_placeOf_1 (X : Nat → List Int → AMem → Prop) (Q : Int → AMem → Prop) (x1 x2 x3 : Int) (σ : AMem) : Prop :=
  (if x3 < x1 then
  T_Model_wider [9790, x2] σ (fun r3 σ4 => (if x3 < (σ4 9790 123) then
    T_Model_partSize [9790, x3] σ4 (fun r5 σ6 => X 2 [9790, x1, x3, r5, r3] σ6)
    else
    am_r32 (24 * (σ4 9790 125)) ∧ X 2 [9790, x1, x3, (24 * (σ4 9790 125)), r3] σ4))
  else
  T_Model_wider [9790, x2] σ (fun r1 σ2 => Q r1 σ2))
def B_Model_placeOf_2 (X : Nat → List Int → AMem → Prop) (Q : Int → AMem → Prop) (x1 x3 s0 s1 : Int) (σ : AMem) : Prop :=
  am_r32 (s1 + s0) ∧ am_r32 (x3 + 1) ∧ X 1 [9790, x1, (s1 + s0), (x3 + 1)] σ
def B_Model_placeOf : (Nat → List Int → AMem → Prop) → (Int → AMem → Prop) → Nat → List Int → AMem → Prop := fun X Q j v σ => am_sel [(am_v2 (fun t x1 σ => if t = 9790 then B_Model_placeOf_0 X Q x1 σ else False)), (am_v4 (fun t x1 x2 x3 σ => if t = 9790 then B_Model_placeOf_1 X Q x1 x2 x3 σ else False)), (am_v5 (fun t x1 x3 s0 s1 σ => if t = 9790 then B_Model_placeOf_2 X Q x1 x3 s0 s1 σ else False))] j v σ
def T_Model_placeOf : List Int → AMem → (Int → AMem → Prop) → Prop := am_T B_Model_placeOf
abbrev y_Model_placeOf : MethodName := ⟨"LinkHouseModel", "placeOf", "(I)I"⟩
def a_Model_placeOf : AC := (307, (y_Model_placeOf, prog_10_method_130_code, 4, (Option.some Jvm.ClassFile.FieldType.int)), [2, 0], 0, false, { frames := 5, cells := 0, slots := 0, locals := 153 }, T_Model_placeOf)
set_option maxRecDepth 100000 in
theorem ms_Model_placeOf : am_MSp a_Model_placeOf := am_ms_v 10168 9 10167 112009 8 rfl (by decide +kernel)
abbrev k_Model_placeOf : List AC := [a_Model_wider, a_Model_partSize]
set_option maxRecDepth 100000 in
theorem s_Model_placeOf : (am_chkR { frames := 5, cells := 0, slots := 0, locals := 153 } k_Model_placeOf && am_chkN c_Model_placeOf { frames := 5, cells := 0, slots := 0, locals := 153 } && c_Model_placeOf.all (am_chk "LinkHouseModel" prog_10_method_130_code 4 (Option.some Jvm.ClassFile.FieldType.int) k_Model_placeOf) && c_Model_placeOf.all (am_chkL m_Model_placeOf) && decide (m_Model_placeOf[0]? = some (0, am_argp 0 [2, 0], [])) && decide (am_argn [2, 0] ≤ 4)) = true := by decide +kernel
set_option maxHeartbeats 150000 in
set_option maxRecDepth 100000 in
theorem h_Model_placeOf : ∀ X Q j v σ, B_Model_placeOf X Q j v σ → am_at GR k_Model_placeOf c_Model_placeOf m_Model_placeOf X Q 35 j v σ := fun X Q => am_sel_all (P := fun j v σ => am_at GR k_Model_placeOf c_Model_placeOf m_Model_placeOf X Q 35 j v σ) (⟨(am_v2_of (fun t x1 σ h => am_tk (fun e => by subst e; exact fun h => h) h)), ⟨(am_v4_of (fun t x1 x2 x3 σ h => am_tk (fun e => by subst e; exact fun h => h) h)), ⟨(am_v5_of (fun t x1 x3 s0 s1 σ h => am_tk (fun e => by subst e; exact fun h => h) h)), trivial⟩⟩⟩)
set_option maxRecDepth 100000 in
theorem S_Model_placeOf (l : Launch) (w : AW) : am_S l w GR a_Model_placeOf := am_sound (rt := 0) (cal := k_Model_placeOf) 307 y_Model_placeOf prog_10_method_130_code 4 (Option.some Jvm.ClassFile.FieldType.int) [2, 0] false { frames := 5, cells := 0, slots := 0, locals := 153 } B_Model_placeOf "LinkHouseModel" c_Model_placeOf m_Model_placeOf 35 ms_Model_placeOf (by decide +kernel) rfl rfl (am_cal (S_Model_wider l w) (am_cal (S_Model_partSize l w) (fun _ h => absurd h List.not_mem_nil))) s_Model_placeOf h_Model_placeOf
set_option maxRecDepth 100000 in
theorem of_Model_placeOf {Q : Int → AMem → Prop} {x1 : Int} {σ : AMem} (h : ∀ X : Nat → List Int → AMem → Prop, (∀ (x1 : Int) (σ : AMem), B_Model_placeOf_0 X Q x1 σ → X 0 [9790, x1] σ) → (∀ (x1 x2 x3 : Int) (σ : AMem), B_Model_placeOf_1 X Q x1 x2 x3 σ → X 1 [9790, x1, x2, x3] σ) → (∀ (x1 x3 s0 s1 : Int) (σ : AMem), B_Model_placeOf_2 X Q x1 x3 s0 s1 σ → X 2 [9790, x1, x3, s0, s1] σ) → X 0 [9790, x1] σ) : T_Model_placeOf [9790, x1] σ Q := fun X hX => h X (fun x1 σ h => hX 0 [9790, x1] σ h) (fun x1 x2 x3 σ h => hX 1 [9790, x1, x2, x3] σ h) (fun x1 x3 s0 s1 σ h => hX 2 [9790, x1, x3, s0, s1] σ h)
def c_Model_textMany : List aE := [(0, 1, .iconst 1, 1, 0, 0, []), (1, 0, .istore_n 1, 1, 0, 0, []), (2, 0, .iconst 0, 1, 0, 0, []), (3, 0, .istore_n 2, 1, 0, 0, []), (4, 2, .iload_n 2, 1, 0, 0, []), (5, 0, .aload_n 0, 1, 0, 0, []), (6, 0, .getfield 473, 3, 8, 20, [0, 0, 6209]), (9, 0, .if_icmp .ge 20, 3, 0, 0, []), (12, 0, .iload_n 1, 1, 0, 0, []), (13, 0, .aload_n 0, 1, 0, 0, []), (14, 0, .getfield 57, 3, 8, 22, [2, 0, 6211]), (17, 0, .iload_n 2, 1, 0, 0, []), (18, 0, .iaload, 1, 0, 0, []), (19, 0, .iconst 1, 1, 0, 0, []), (20, 0, .iadd, 1, 0, 0, []), (21, 0, .iadd, 1, 0, 0, []), (22, 0, .istore_n 1, 1, 0, 0, []), (23, 0, .iinc 2 1, 3, 0, 0, []), (26, 0, .goto (-22), 3, 0, 0, []), (29, 0, .iload_n 1, 1, 0, 0, []), (30, 0, .ireturn, 1, 0, 0, [])]
def m_Model_textMany : List aT := [(0, [(0, 2)], []), (4, [(0, 2), (1, 0), (2, 0)], [])]
def B_Model_textMany_0 (X : Nat → List Int → AMem → Prop) (Q : Int → AMem → Prop) (σ : AMem) : Prop :=
  X 1 [9790, 1, 0] σ
def B_Model_textMany_1 (X : Nat → List Int → AMem → Prop) (Q : Int → AMem → Prop) (x1 x2 : Int) (σ : AMem) : Prop :=
  (if x2 < (σ 9790 20) then
  0 ≤ x2 ∧ x2 < 4096 ∧ am_r32 ((σ 9804 x2) + 1) ∧ am_r32 (x1 + ((σ 9804 x2) + 1)) ∧ am_r32 (x2 + 1) ∧ X 1 [9790, (x1 + ((σ 9804 x2) + 1)), (x2 + 1)] σ
  else
  Q x1 σ)
def B_Model_textMany : (Nat → List Int → AMem → Prop) → (Int → AMem → Prop) → Nat → List Int → AMem → Prop := fun X Q j v σ => am_sel [(am_v1 (fun t σ => if t = 9790 then B_Model_textMany_0 X Q σ else False)), (am_v3 (fun t x1 x2 σ => if t = 9790 then B_Model_textMany_1 X Q x1 x2 σ else False))] j v σ
def T_Model_textMany : List Int → AMem → (Int → AMem → Prop) → Prop := am_T B_Model_textMany
abbrev y_Model_textMany : MethodName := ⟨"LinkHouseModel", "textMany", "()I"⟩
def a_Model_textMany : AC := (308, (y_Model_textMany, prog_10_method_128_code, 3, (Option.some Jvm.ClassFile.FieldType.int)), [2], 0, false, { frames := 0, cells := 0, slots := 0, locals := 0 }, T_Model_textMany)
set_option maxRecDepth 100000 in
theorem ms_Model_textMany : am_MSp a_Model_textMany := am_ms_v 10180 9 10179 112012 8 rfl (by decide +kernel)
abbrev k_Model_textMany : List AC := []
set_option maxRecDepth 100000 in
theorem s_Model_textMany : (am_chkR { frames := 0, cells := 0, slots := 0, locals := 0 } k_Model_textMany && am_chkN c_Model_textMany { frames := 0, cells := 0, slots := 0, locals := 0 } && c_Model_textMany.all (am_chk "LinkHouseModel" prog_10_method_128_code 3 (Option.some Jvm.ClassFile.FieldType.int) k_Model_textMany) && c_Model_textMany.all (am_chkL m_Model_textMany) && decide (m_Model_textMany[0]? = some (0, am_argp 0 [2], [])) && decide (am_argn [2] ≤ 3)) = true := by decide +kernel
set_option maxHeartbeats 150000 in
set_option maxRecDepth 100000 in
theorem h_Model_textMany : ∀ X Q j v σ, B_Model_textMany X Q j v σ → am_at GR k_Model_textMany c_Model_textMany m_Model_textMany X Q 26 j v σ := fun X Q => am_sel_all (P := fun j v σ => am_at GR k_Model_textMany c_Model_textMany m_Model_textMany X Q 26 j v σ) (⟨(am_v1_of (fun t σ h => am_tk (fun e => by subst e; exact fun h => h) h)), ⟨(am_v3_of (fun t x1 x2 σ h => am_tk (fun e => by subst e; exact fun h => h) h)), trivial⟩⟩)
set_option maxRecDepth 100000 in
theorem S_Model_textMany (l : Launch) (w : AW) : am_S l w GR a_Model_textMany := am_sound (rt := 0) (cal := k_Model_textMany) 308 y_Model_textMany prog_10_method_128_code 3 (Option.some Jvm.ClassFile.FieldType.int) [2] false { frames := 0, cells := 0, slots := 0, locals := 0 } B_Model_textMany "LinkHouseModel" c_Model_textMany m_Model_textMany 26 ms_Model_textMany (by decide +kernel) rfl rfl (fun _ h => absurd h List.not_mem_nil) s_Model_textMany h_Model_textMany
set_option maxRecDepth 100000 in
theorem of_Model_textMany {Q : Int → AMem → Prop} {σ : AMem} (h : ∀ X : Nat → List Int → AMem → Prop, (∀ (σ : AMem), B_Model_textMany_0 X Q σ → X 0 [9790] σ) → (∀ (x1 x2 : Int) (σ : AMem), B_Model_textMany_1 X Q x1 x2 σ → X 1 [9790, x1, x2] σ) → X 0 [9790] σ) : T_Model_textMany [9790] σ Q := fun X hX => h X (fun σ h => hX 0 [9790] σ h) (fun x1 x2 σ h => hX 1 [9790, x1, x2] σ h)
def c_Model_mergedRow : List aE := [(0, 1, .aload_n 0, 1, 0, 0, []), (1, 0, .aload_n 0, 1, 0, 0, []), (2, 0, .aload_n 0, 1, 0, 0, []), (3, 0, .getfield 813, 3, 8, 123, [0, 0, 7072]), (6, 0, .iconst 1, 1, 0, 0, []), (7, 0, .iadd, 1, 0, 0, []), (8, 0, .invokevirtual 838, 3, 307, 8, [10165]), (11, 0, .aload_n 0, 1, 0, 0, []), (12, 0, .invokevirtual 841, 3, 308, 8, [10177]), (15, 0, .iadd, 1, 0, 0, []), (16, 0, .invokevirtual 802, 3, 295, 8, [10115]), (19, 0, .bipush 64, 2, 0, 0, []), (21, 0, .iload_n 1, 1, 0, 0, []), (22, 0, .imul, 1, 0, 0, []), (23, 0, .iadd, 1, 0, 0, []), (24, 0, .ireturn, 1, 0, 0, [])]
def m_Model_mergedRow : List aT := [(0, [(0, 2), (1, 0)], [])]
def B_Model_mergedRow_0 (X : Nat → List Int → AMem → Prop) (Q : Int → AMem → Prop) (x1 : Int) (σ : AMem) : Prop :=
  am_r32 ((σ 9790 123) + 1) ∧ T_Model_placeOf [9790, ((σ 9790 123) + 1)] σ (fun r1 σ2 => T_Model_textMany [9790] σ2 (fun r3 σ4 => am_r32 (r1 + r3) ∧ T_Model_wider [9790, (r1 + r3)] σ4 (fun r5 σ6 => am_r32 (64 * x1) ∧ am_r32 (r5 + (64 * x1)) ∧ Q (r5 + (64 * x1)) σ6)))
def B_Model_mergedRow : (Nat → List Int → AMem → Prop) → (Int → AMem → Prop) → Nat → List Int → AMem → Prop := fun X Q j v σ => am_sel [(am_v2 (fun t x1 σ => if t = 9790 then B_Model_mergedRow_0 X Q x1 σ else False))] j v σ
def T_Model_mergedRow : List Int → AMem → (Int → AMem → Prop) → Prop := am_T B_Model_mergedRow
abbrev y_Model_mergedRow : MethodName := ⟨"LinkHouseModel", "mergedRow", "(I)I"⟩
def a_Model_mergedRow : AC := (309, (y_Model_mergedRow, prog_10_method_131_code, 2, (Option.some Jvm.ClassFile.FieldType.int)), [2, 0], 0, false, { frames := 6, cells := 0, slots := 0, locals := 184 }, T_Model_mergedRow)
set_option maxRecDepth 100000 in
theorem ms_Model_mergedRow : am_MSp a_Model_mergedRow := am_ms_v 10164 9 10163 112008 8 rfl (by decide +kernel)
abbrev k_Model_mergedRow : List AC := [a_Model_placeOf, a_Model_textMany, a_Model_wider]
set_option maxRecDepth 100000 in
theorem s_Model_mergedRow : (am_chkR { frames := 6, cells := 0, slots := 0, locals := 184 } k_Model_mergedRow && am_chkN c_Model_mergedRow { frames := 6, cells := 0, slots := 0, locals := 184 } && c_Model_mergedRow.all (am_chk "LinkHouseModel" prog_10_method_131_code 2 (Option.some Jvm.ClassFile.FieldType.int) k_Model_mergedRow) && c_Model_mergedRow.all (am_chkL m_Model_mergedRow) && decide (m_Model_mergedRow[0]? = some (0, am_argp 0 [2, 0], [])) && decide (am_argn [2, 0] ≤ 2)) = true := by decide +kernel
set_option maxHeartbeats 150000 in
set_option maxRecDepth 100000 in
theorem h_Model_mergedRow : ∀ X Q j v σ, B_Model_mergedRow X Q j v σ → am_at GR k_Model_mergedRow c_Model_mergedRow m_Model_mergedRow X Q 21 j v σ := fun X Q => am_sel_all (P := fun j v σ => am_at GR k_Model_mergedRow c_Model_mergedRow m_Model_mergedRow X Q 21 j v σ) (⟨(am_v2_of (fun t x1 σ h => am_tk (fun e => by subst e; exact fun h => h) h)), trivial⟩)
set_option maxRecDepth 100000 in
theorem S_Model_mergedRow (l : Launch) (w : AW) : am_S l w GR a_Model_mergedRow := am_sound (rt := 0) (cal := k_Model_mergedRow) 309 y_Model_mergedRow prog_10_method_131_code 2 (Option.some Jvm.ClassFile.FieldType.int) [2, 0] false { frames := 6, cells := 0, slots := 0, locals := 184 } B_Model_mergedRow "LinkHouseModel" c_Model_mergedRow m_Model_mergedRow 21 ms_Model_mergedRow (by decide +kernel) rfl rfl (am_cal (S_Model_placeOf l w) (am_cal (S_Model_textMany l w) (am_cal (S_Model_wider l w) (fun _ h => absurd h List.not_mem_nil)))) s_Model_mergedRow h_Model_mergedRow
set_option maxRecDepth 100000 in
theorem of_Model_mergedRow {Q : Int → AMem → Prop} {x1 : Int} {σ : AMem} (h : ∀ X : Nat → List Int → AMem → Prop, (∀ (x1 : Int) (σ : AMem), B_Model_mergedRow_0 X Q x1 σ → X 0 [9790, x1] σ) → X 0 [9790, x1] σ) : T_Model_mergedRow [9790, x1] σ Q := fun X hX => h X (fun x1 σ h => hX 0 [9790, x1] σ h)
set_option maxRecDepth 100000 in
theorem iff_Model_mergedRow {Q : Int → AMem → Prop} {X : Nat → List Int → AMem → Prop} {x1 : Int} {σ : AMem} : T_Model_mergedRow [9790, x1] σ Q ↔ B_Model_mergedRow_0 X Q x1 σ := ⟨fun h => h (fun j v σ => B_Model_mergedRow X Q j v σ) (fun _ _ _ q => q), fun h _ hX => hX 0 _ _ h⟩
def c_Model_mergedRows : List aE := [(0, 1, .aload_n 0, 1, 0, 0, []), (1, 0, .iload_n 1, 1, 0, 0, []), (2, 0, .invokevirtual 850, 3, 309, 8, [10161]), (5, 0, .istore 12, 2, 0, 0, []), (7, 0, .aload_n 0, 1, 0, 0, []), (8, 0, .iload 12, 2, 0, 0, []), (10, 0, .iconst 4, 1, 0, 0, []), (11, 0, .iadd, 1, 0, 0, []), (12, 0, .lload_n 2, 1, 0, 0, []), (13, 0, .iconst 4, 1, 0, 0, []), (14, 0, .invokevirtual 750, 3, 287, 8, [10089]), (17, 0, .aload_n 0, 1, 0, 0, []), (18, 0, .iload 12, 2, 0, 0, []), (20, 0, .bipush 24, 2, 0, 0, []), (22, 0, .iadd, 1, 0, 0, []), (23, 0, .aload_n 0, 1, 0, 0, []), (24, 0, .iload_n 1, 1, 0, 0, []), (25, 0, .invokevirtual 838, 3, 307, 8, [10165]), (28, 0, .i2l, 1, 0, 0, []), (29, 0, .bipush 8, 2, 0, 0, []), (31, 0, .invokevirtual 750, 3, 287, 8, [10089]), (34, 0, .aload_n 0, 1, 0, 0, []), (35, 0, .iload 12, 2, 0, 0, []), (37, 0, .bipush 32, 2, 0, 0, []), (39, 0, .iadd, 1, 0, 0, []), (40, 0, .lload 4, 2, 0, 0, []), (42, 0, .bipush 8, 2, 0, 0, []), (44, 0, .invokevirtual 750, 3, 287, 8, [10089]), (47, 0, .aload_n 0, 1, 0, 0, []), (48, 0, .iload 12, 2, 0, 0, []), (50, 0, .bipush 40, 2, 0, 0, []), (52, 0, .iadd, 1, 0, 0, []), (53, 0, .iload 6, 2, 0, 0, []), (55, 0, .i2l, 1, 0, 0, []), (56, 0, .iconst 4, 1, 0, 0, []), (57, 0, .invokevirtual 750, 3, 287, 8, [10089]), (60, 0, .aload_n 0, 1, 0, 0, []), (61, 0, .iload 12, 2, 0, 0, []), (63, 0, .bipush 44, 2, 0, 0, []), (65, 0, .iadd, 1, 0, 0, []), (66, 0, .iload 7, 2, 0, 0, []), (68, 0, .i2l, 1, 0, 0, []), (69, 0, .iconst 4, 1, 0, 0, []), (70, 0, .invokevirtual 750, 3, 287, 8, [10089]), (73, 0, .aload_n 0, 1, 0, 0, []), (74, 0, .iload 12, 2, 0, 0, []), (76, 0, .bipush 48, 2, 0, 0, []), (78, 0, .iadd, 1, 0, 0, []), (79, 0, .lload 8, 2, 0, 0, []), (81, 0, .bipush 8, 2, 0, 0, []), (83, 0, .invokevirtual 750, 3, 287, 8, [10089]), (86, 0, .aload_n 0, 1, 0, 0, []), (87, 0, .iload 12, 2, 0, 0, []), (89, 0, .bipush 56, 2, 0, 0, []), (91, 0, .iadd, 1, 0, 0, []), (92, 0, .lload 10, 2, 0, 0, []), (94, 0, .bipush 8, 2, 0, 0, []), (96, 0, .invokevirtual 750, 3, 287, 8, [10089]), (99, 0, .return_, 1, 0, 0, [])]
def m_Model_mergedRows : List aT := [(0, [(0, 2), (1, 0), (2, 1), (4, 1), (6, 0), (7, 0), (8, 1), (10, 1)], [])]
def B_Model_mergedRows_0 (X : Nat → List Int → AMem → Prop) (Q : Int → AMem → Prop) (x1 x2 x4 x6 x7 x8 x10 : Int) (σ : AMem) : Prop :=
  T_Model_mergedRow [9790, x1] σ (fun r1 σ2 => am_r32 (r1 + 4) ∧ T_Model_put [9790, (r1 + 4), x2, 4] σ2 (fun r3 σ4 => am_r32 (r1 + 24) ∧ T_Model_placeOf [9790, x1] σ4 (fun r5 σ6 => T_Model_put [9790, (r1 + 24), r5, 8] σ6 (fun r7 σ8 => am_r32 (r1 + 32) ∧ T_Model_put [9790, (r1 + 32), x4, 8] σ8 (fun r9 σ10 => am_r32 (r1 + 40) ∧ T_Model_put [9790, (r1 + 40), x6, 4] σ10 (fun r11 σ12 => am_r32 (r1 + 44) ∧ T_Model_put [9790, (r1 + 44), x7, 4] σ12 (fun r13 σ14 => am_r32 (r1 + 48) ∧ T_Model_put [9790, (r1 + 48), x8, 8] σ14 (fun r15 σ16 => am_r32 (r1 + 56) ∧ T_Model_put [9790, (r1 + 56), x10, 8] σ16 (fun r17 σ18 => Q 0 σ18)))))))))
def B_Model_mergedRows : (Nat → List Int → AMem → Prop) → (Int → AMem → Prop) → Nat → List Int → AMem → Prop := fun X Q j v σ => am_sel [(am_v8 (fun t x1 x2 x4 x6 x7 x8 x10 σ => if t = 9790 then B_Model_mergedRows_0 X Q x1 x2 x4 x6 x7 x8 x10 σ else False))] j v σ
def T_Model_mergedRows : List Int → AMem → (Int → AMem → Prop) → Prop := am_T B_Model_mergedRows
abbrev y_Model_mergedRows : MethodName := ⟨"LinkHouseModel", "mergedRows", "(IJJIIJJ)V"⟩
def a_Model_mergedRows : AC := (310, (y_Model_mergedRows, prog_10_method_133_code, 13, (Option.none : Option Jvm.ClassFile.FieldType)), [2, 0, 1, 1, 0, 0, 1, 1], 3, false, { frames := 7, cells := 0, slots := 0, locals := 213 }, T_Model_mergedRows)
set_option maxRecDepth 100000 in
theorem ms_Model_mergedRows : am_MSp a_Model_mergedRows := am_ms_v 10188 9 10187 112014 8 rfl (by decide +kernel)
abbrev k_Model_mergedRows : List AC := [a_Model_mergedRow, a_Model_put, a_Model_placeOf]
set_option maxRecDepth 100000 in
theorem s_Model_mergedRows : (am_chkR { frames := 7, cells := 0, slots := 0, locals := 213 } k_Model_mergedRows && am_chkN c_Model_mergedRows { frames := 7, cells := 0, slots := 0, locals := 213 } && c_Model_mergedRows.all (am_chk "LinkHouseModel" prog_10_method_133_code 13 (Option.none : Option Jvm.ClassFile.FieldType) k_Model_mergedRows) && c_Model_mergedRows.all (am_chkL m_Model_mergedRows) && decide (m_Model_mergedRows[0]? = some (0, am_argp 0 [2, 0, 1, 1, 0, 0, 1, 1], [])) && decide (am_argn [2, 0, 1, 1, 0, 0, 1, 1] ≤ 13)) = true := by decide +kernel
set_option maxHeartbeats 150000 in
set_option maxRecDepth 100000 in
theorem h_Model_mergedRows : ∀ X Q j v σ, B_Model_mergedRows X Q j v σ → am_at GR k_Model_mergedRows c_Model_mergedRows m_Model_mergedRows X Q 64 j v σ := fun X Q => am_sel_all (P := fun j v σ => am_at GR k_Model_mergedRows c_Model_mergedRows m_Model_mergedRows X Q 64 j v σ) (⟨(am_v8_of (fun t x1 x2 x4 x6 x7 x8 x10 σ h => am_tk (fun e => by subst e; exact fun h => h) h)), trivial⟩)
set_option maxRecDepth 100000 in
theorem S_Model_mergedRows (l : Launch) (w : AW) : am_S l w GR a_Model_mergedRows := am_sound (rt := 3) (cal := k_Model_mergedRows) 310 y_Model_mergedRows prog_10_method_133_code 13 (Option.none : Option Jvm.ClassFile.FieldType) [2, 0, 1, 1, 0, 0, 1, 1] false { frames := 7, cells := 0, slots := 0, locals := 213 } B_Model_mergedRows "LinkHouseModel" c_Model_mergedRows m_Model_mergedRows 64 ms_Model_mergedRows (by decide +kernel) rfl rfl (am_cal (S_Model_mergedRow l w) (am_cal (S_Model_put l w) (am_cal (S_Model_placeOf l w) (fun _ h => absurd h List.not_mem_nil)))) s_Model_mergedRows h_Model_mergedRows
set_option maxRecDepth 100000 in
theorem of_Model_mergedRows {Q : Int → AMem → Prop} {x1 x2 x4 x6 x7 x8 x10 : Int} {σ : AMem} (h : ∀ X : Nat → List Int → AMem → Prop, (∀ (x1 x2 x4 x6 x7 x8 x10 : Int) (σ : AMem), B_Model_mergedRows_0 X Q x1 x2 x4 x6 x7 x8 x10 σ → X 0 [9790, x1, x2, x4, x6, x7, x8, x10] σ) → X 0 [9790, x1, x2, x4, x6, x7, x8, x10] σ) : T_Model_mergedRows [9790, x1, x2, x4, x6, x7, x8, x10] σ Q := fun X hX => h X (fun x1 x2 x4 x6 x7 x8 x10 σ h => hX 0 [9790, x1, x2, x4, x6, x7, x8, x10] σ h)
set_option maxRecDepth 100000 in
theorem iff_Model_mergedRows {Q : Int → AMem → Prop} {X : Nat → List Int → AMem → Prop} {x1 x2 x4 x6 x7 x8 x10 : Int} {σ : AMem} : T_Model_mergedRows [9790, x1, x2, x4, x6, x7, x8, x10] σ Q ↔ B_Model_mergedRows_0 X Q x1 x2 x4 x6 x7 x8 x10 σ := ⟨fun h => h (fun j v σ => B_Model_mergedRows X Q j v σ) (fun _ _ _ q => q), fun h _ hX => hX 0 _ _ h⟩
