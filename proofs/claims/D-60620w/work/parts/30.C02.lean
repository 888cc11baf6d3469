/-! methods: printed by gen/all.py -/
def c_LinkHouse_isWhole : List aE := [(0, 1, .iconst 0, 1, 0, 0, []), (1, 0, .istore_n 1, 1, 0, 0, []), (2, 2, .iload_n 1, 1, 0, 0, []), (3, 0, .aload_n 0, 1, 0, 0, []), (4, 0, .getfield 329, 3, 0, 39, [0, 0, 2012]), (7, 0, .if_icmp .ge 46, 3, 0, 0, []), (10, 0, .aload_n 0, 1, 0, 0, []), (11, 0, .getfield 25, 3, 0, 3, [2, 0, 1216]), (14, 0, .aload_n 0, 1, 0, 0, []), (15, 0, .getfield 110, 3, 0, 34, [2, 0, 2007]), (18, 0, .iload_n 1, 1, 0, 0, []), (19, 0, .aaload, 1, 9, 0, []), (20, 0, .aload_n 0, 1, 0, 0, []), (21, 0, .getfield 116, 3, 0, 36, [2, 0, 2009]), (24, 0, .iload_n 1, 1, 0, 0, []), (25, 0, .iaload, 1, 0, 0, []), (26, 0, .invokevirtual 342, 3, 6, 2, [3094]), (29, 0, .astore_n 2, 1, 0, 0, []), (30, 0, .aload_n 2, 1, 0, 0, []), (31, 0, .invokevirtual 457, 3, 35, 3, [3099]), (34, 0, .ifCond .eq 6, 3, 0, 0, []), (37, 0, .goto 10, 3, 0, 0, []), (40, 0, .aload_n 0, 1, 0, 0, []), (41, 0, .aload_n 2, 1, 0, 0, []), (42, 0, .invokevirtual 282, 3, 30, 0, [3085]), (45, 0, .iconst 0, 1, 0, 0, []), (46, 0, .ireturn, 1, 1, 0, []), (47, 0, .iinc 1 1, 3, 0, 0, []), (50, 0, .goto (-48), 3, 0, 0, []), (53, 0, .iconst 0, 1, 0, 0, []), (54, 0, .istore_n 1, 1, 0, 0, []), (55, 3, .iload_n 1, 1, 0, 0, []), (56, 0, .aload_n 0, 1, 0, 0, []), (57, 0, .getfield 259, 3, 0, 21, [0, 0, 1234]), (60, 0, .if_icmp .ge 77, 3, 0, 0, []), (63, 0, .aload_n 0, 1, 0, 0, []), (64, 0, .getfield 42, 3, 0, 7, [2, 0, 1220]), (67, 0, .iload_n 1, 1, 0, 0, []), (68, 0, .aaload, 1, 5, 0, []), (69, 0, .astore_n 2, 1, 0, 0, []), (70, 0, .iconst 1, 1, 0, 0, []), (71, 0, .istore_n 3, 1, 0, 0, []), (72, 4, .iload_n 3, 1, 0, 0, []), (73, 0, .aload_n 2, 1, 0, 0, []), (74, 0, .getfield 247, 3, 7, 4, [0, 0, 1075]), (77, 0, .if_icmp .ge 54, 3, 0, 0, []), (80, 0, .aload_n 2, 1, 0, 0, []), (81, 0, .getfield 266, 3, 7, 16, [2, 0, 1100]), (84, 0, .iload_n 3, 1, 0, 0, []), (85, 0, .iaload, 1, 0, 0, []), (86, 0, .iconst 1, 1, 0, 0, []), (87, 0, .if_icmp .ne 38, 3, 0, 0, []), (90, 0, .aload_n 2, 1, 0, 0, []), (91, 0, .iload_n 3, 1, 0, 0, []), (92, 0, .invokevirtual 272, 3, 27, 7, [3063]), (95, 0, .ifCond .ne 30, 3, 0, 0, []), (98, 0, .aload_n 2, 1, 0, 0, []), (99, 0, .getfield 269, 3, 7, 25, [2, 0, 1118]), (102, 0, .iload_n 3, 1, 0, 0, []), (103, 0, .aaload, 1, 6, 0, []), (104, 0, .invokevirtual 457, 3, 35, 3, [3099]), (107, 0, .ifCond .eq 6, 3, 0, 0, []), (110, 0, .goto 15, 3, 0, 0, []), (113, 0, .aload_n 0, 1, 0, 0, []), (114, 0, .aload_n 2, 1, 0, 0, []), (115, 0, .getfield 269, 3, 7, 25, [2, 0, 1118]), (118, 0, .iload_n 3, 1, 0, 0, []), (119, 0, .aaload, 1, 6, 0, []), (120, 0, .invokevirtual 282, 3, 30, 0, [3085]), (123, 0, .iconst 0, 1, 0, 0, []), (124, 0, .ireturn, 1, 1, 0, []), (125, 5, .iinc 3 1, 3, 0, 0, []), (128, 0, .goto (-56), 3, 0, 0, []), (131, 0, .iinc 1 1, 3, 0, 0, []), (134, 0, .goto (-79), 3, 0, 0, []), (137, 0, .aload_n 0, 1, 0, 0, []), (138, 0, .getfield 25, 3, 0, 3, [2, 0, 1216]), (141, 0, .aload_n 0, 1, 0, 0, []), (142, 0, .getfield 88, 3, 0, 28, [2, 0, 2001]), (145, 0, .aload_n 0, 1, 0, 0, []), (146, 0, .getfield 88, 3, 0, 28, [2, 0, 2001]), (149, 0, .arraylength, 1, 2, 0, []), (150, 0, .invokevirtual 342, 3, 6, 2, [3094]), (153, 0, .astore_n 1, 1, 0, 0, []), (154, 0, .aload_n 1, 1, 0, 0, []), (155, 0, .ifnull 12, 3, 0, 0, []), (158, 0, .aload_n 1, 1, 0, 0, []), (159, 0, .getfield 292, 3, 3, 2, [0, 0, 120]), (162, 0, .ifCond .le 5, 3, 0, 0, []), (165, 0, .iconst 1, 1, 0, 0, []), (166, 0, .ireturn, 1, 1, 0, []), (167, 6, .aload_n 0, 1, 0, 0, []), (168, 0, .aload_n 0, 1, 0, 0, []), (169, 0, .getfield 88, 3, 0, 28, [2, 0, 2001]), (172, 0, .arraylength, 1, 2, 0, []), (173, 0, .putfield 204, 3, 0, 20, [0, 0, 1233]), (176, 0, .aload_n 0, 1, 0, 0, []), (177, 0, .getfield 88, 3, 0, 28, [2, 0, 2001]), (180, 0, .iconst 0, 1, 0, 0, []), (181, 0, .aload_n 0, 1, 0, 0, []), (182, 0, .getfield 37, 3, 0, 6, [2, 0, 1219]), (185, 0, .iconst 0, 1, 0, 0, []), (186, 0, .aload_n 0, 1, 0, 0, []), (187, 0, .getfield 88, 3, 0, 28, [2, 0, 2001]), (190, 0, .arraylength, 1, 2, 0, []), (191, 0, .invokestatic 210, 3, 9999, 0, [3089]), (194, 0, .iconst 0, 1, 0, 0, []), (195, 0, .ireturn, 1, 1, 0, [])]
def m_LinkHouse_isWhole : List aT := [(0, [(0, 2)], []), (2, [(0, 2), (1, 0)], []), (55, [(0, 2), (1, 0)], []), (72, [(0, 2), (1, 0), (2, 2), (3, 0)], []), (125, [(0, 2), (1, 0), (2, 2), (3, 0)], []), (167, [(0, 2)], [])]
def B_LinkHouse_isWhole_0 (X : Nat → List Int → AMem → Prop) (Q : Int → AMem → Prop) (σ : AMem) : Prop :=
  X 1 [1, 0] σ
def B_LinkHouse_isWhole_1 (X : Nat → List Int → AMem → Prop) (Q : Int → AMem → Prop) (x1 : Int) (σ : AMem) : Prop :=
  (if x1 < (σ 1 39) then
  0 ≤ x1 ∧ x1 < 16 ∧ 0 ≤ x1 ∧ x1 < 16 ∧ T_Names_findRow [16, (σ 8320 x1), (σ 8338 x1)] σ (fun r1 σ2 => (if ly_k r1 = 23 then T_Name_isDefined [r1] σ2 (fun r3 σ4 => (if r3 = 0 then
    T_LinkHouse_tells [1, r1] σ4 (fun r5 σ6 => Q 0 σ6)
    else
    am_r32 (x1 + 1) ∧ X 1 [1, (x1 + 1)] σ4)) else False))
  else
  X 2 [1, 0] σ)
def B_LinkHouse_isWhole_2 (X : Nat → List Int → AMem → Prop) (Q : Int → AMem → Prop) (x1 : Int) (σ : AMem) : Prop :=
  (if x1 < (σ 1 21) then
  0 ≤ x1 ∧ x1 < 64 ∧ X 3 [1, x1, (σ 8279 x1), 1] σ
  else
  T_Names_findRow [16, 8293, 6] σ (fun r1 σ2 => (if r1 = 0 then
    X 5 [1] σ2
    else
    (if ly_k r1 = 23 then (if 0 < (am_rd GR σ2 r1 2) then
      Q 1 σ2
      else
      X 5 [1] σ2) else False))))
def B_LinkHouse_isWhole_3 (X : Nat → List Int → AMem → Prop) (Q : Int → AMem → Prop) (x1 x2 x3 : Int) (σ : AMem) : Prop :=
  (if ly_k x2 = 27 then (if x3 < (am_rd GR σ x2 4) then
  (if ly_k x2 = 27 then (if ly_k (am_rd GR σ x2 16) = 1 then 0 ≤ x3 ∧ x3 < ly_l (am_rd GR σ x2 16) ∧ (if (σ (am_rd GR σ x2 16) x3) = 1 then
    (if ly_k x2 = 27 then T_Part_isDefinition [x2, x3] σ (fun r1 σ2 => (if r1 = 0 then
      (if ly_k x2 = 27 then (if ly_k (am_rd GR σ2 x2 25) = 6 then 0 ≤ x3 ∧ x3 < ly_l (am_rd GR σ2 x2 25) ∧ (if ly_k (σ2 (am_rd GR σ2 x2 25) x3) = 23 then T_Name_isDefined [(σ2 (am_rd GR σ2 x2 25) x3)] σ2 (fun r3 σ4 => (if r3 = 0 then
        (if ly_k x2 = 27 then (if ly_k (am_rd GR σ4 x2 25) = 6 then 0 ≤ x3 ∧ x3 < ly_l (am_rd GR σ4 x2 25) ∧ T_LinkHouse_tells [1, (σ4 (am_rd GR σ4 x2 25) x3)] σ4 (fun r5 σ6 => Q 0 σ6) else False) else False)
        else
        X 4 [1, x1, x2, x3] σ4)) else False) else False) else False)
      else
      X 4 [1, x1, x2, x3] σ2)) else False)
    else
    X 4 [1, x1, x2, x3] σ) else False) else False)
  else
  am_r32 (x1 + 1) ∧ X 2 [1, (x1 + 1)] σ) else False)
def B_LinkHouse_isWhole_4 (X : Nat → List Int → AMem → Prop) (Q : Int → AMem → Prop) (x1 x2 x3 : Int) (σ : AMem) : Prop :=
  am_r32 (x3 + 1) ∧ X 3 [1, x1, x2, (x3 + 1)] σ
def B_LinkHouse_isWhole_5 (X : Nat → List Int → AMem → Prop) (Q : Int → AMem → Prop) (σ : AMem) : Prop :=
  am_let (am_upd σ 1 20 6) (fun σ1 => (if ly_k (σ1 1 6) = 2 then (0 : Int) ≤ 0 ∧ (0 : Int) ≤ 0 ∧ (0 : Int) ≤ 6 ∧ (0 + 6 : Int) ≤ 6 ∧ 0 + 6 ≤ ly_l (σ1 1 6) ∧ am_let (am_cp σ1 8293 0 (σ1 1 6) 0 6) (fun σ2 => Q 0 σ2) else False))
def B_LinkHouse_isWhole : (Nat → List Int → AMem → Prop) → (Int → AMem → Prop) → Nat → List Int → AMem → Prop := fun X Q j v σ => am_sel [(am_v1 (fun t σ => if t = 1 then B_LinkHouse_isWhole_0 X Q σ else False)), (am_v2 (fun t x1 σ => if t = 1 then B_LinkHouse_isWhole_1 X Q x1 σ else False)), (am_v2 (fun t x1 σ => if t = 1 then B_LinkHouse_isWhole_2 X Q x1 σ else False)), (am_v4 (fun t x1 x2 x3 σ => if t = 1 then B_LinkHouse_isWhole_3 X Q x1 x2 x3 σ else False)), (am_v4 (fun t x1 x2 x3 σ => if t = 1 then B_LinkHouse_isWhole_4 X Q x1 x2 x3 σ else False)), (am_v1 (fun t σ => if t = 1 then B_LinkHouse_isWhole_5 X Q σ else False))] j v σ
def T_LinkHouse_isWhole : List Int → AMem → (Int → AMem → Prop) → Prop := am_T B_LinkHouse_isWhole
abbrev y_LinkHouse_isWhole : MethodName := ⟨"LinkHouse", "isWhole", "()Z"⟩
def a_LinkHouse_isWhole : AC := (36, (y_LinkHouse_isWhole, prog_1_method_28_code, 4, (Option.some Jvm.ClassFile.FieldType.boolean)), [2], 0, false, { frames := 2, cells := 0, slots := 0, locals := 64 }, T_LinkHouse_isWhole)
set_option maxRecDepth 100000 in
theorem ms_LinkHouse_isWhole : am_MSp a_LinkHouse_isWhole := am_ms_v 3098 1 3097 100011 0 rfl (by decide +kernel)
abbrev k_LinkHouse_isWhole : List AC := [a_Names_findRow, a_Name_isDefined, a_LinkHouse_tells, a_Part_isDefinition]
set_option maxRecDepth 100000 in
theorem s_LinkHouse_isWhole : (am_chkR { frames := 2, cells := 0, slots := 0, locals := 64 } k_LinkHouse_isWhole && am_chkN c_LinkHouse_isWhole { frames := 2, cells := 0, slots := 0, locals := 64 } && c_LinkHouse_isWhole.all (am_chk "LinkHouse" prog_1_method_28_code 4 (Option.some Jvm.ClassFile.FieldType.boolean) k_LinkHouse_isWhole) && c_LinkHouse_isWhole.all (am_chkL m_LinkHouse_isWhole) && decide (m_LinkHouse_isWhole[0]? = some (0, am_argp 0 [2], [])) && decide (am_argn [2] ≤ 4)) = true := by decide +kernel
set_option maxHeartbeats 150000 in
set_option maxRecDepth 100000 in
theorem h_LinkHouse_isWhole : ∀ X Q j v σ, B_LinkHouse_isWhole X Q j v σ → am_at GR k_LinkHouse_isWhole c_LinkHouse_isWhole m_LinkHouse_isWhole X Q 113 j v σ := fun X Q => am_sel_all (P := fun j v σ => am_at GR k_LinkHouse_isWhole c_LinkHouse_isWhole m_LinkHouse_isWhole X Q 113 j v σ) (⟨(am_v1_of (fun t σ h => am_tk (fun e => by subst e; exact fun h => h) h)), ⟨(am_v2_of (fun t x1 σ h => am_tk (fun e => by subst e; exact fun h => h) h)), ⟨(am_v2_of (fun t x1 σ h => am_tk (fun e => by subst e; exact fun h => h) h)), ⟨(am_v4_of (fun t x1 x2 x3 σ h => am_tk (fun e => by subst e; exact fun h => h) h)), ⟨(am_v4_of (fun t x1 x2 x3 σ h => am_tk (fun e => by subst e; exact fun h => h) h)), ⟨(am_v1_of (fun t σ h => am_tk (fun e => by subst e; exact fun h => h) h)), trivial⟩⟩⟩⟩⟩⟩)
set_option maxRecDepth 100000 in
theorem S_LinkHouse_isWhole (l : Launch) (w : AW) : am_S l w GR a_LinkHouse_isWhole := am_sound (rt := 0) (cal := k_LinkHouse_isWhole) 36 y_LinkHouse_isWhole prog_1_method_28_code 4 (Option.some Jvm.ClassFile.FieldType.boolean) [2] false { frames := 2, cells := 0, slots := 0, locals := 64 } B_LinkHouse_isWhole "LinkHouse" c_LinkHouse_isWhole m_LinkHouse_isWhole 113 ms_LinkHouse_isWhole (by decide +kernel) rfl rfl (am_cal (S_Names_findRow l w) (am_cal (S_Name_isDefined l w) (am_cal (S_LinkHouse_tells l w) (am_cal (S_Part_isDefinition l w) (fun _ h => absurd h List.not_mem_nil))))) s_LinkHouse_isWhole h_LinkHouse_isWhole
set_option maxRecDepth 100000 in
theorem of_LinkHouse_isWhole {Q : Int → AMem → Prop} {σ : AMem} (h : ∀ X : Nat → List Int → AMem → Prop, (∀ (σ : AMem), B_LinkHouse_isWhole_0 X Q σ → X 0 [1] σ) → (∀ (x1 : Int) (σ : AMem), B_LinkHouse_isWhole_1 X Q x1 σ → X 1 [1, x1] σ) → (∀ (x1 : Int) (σ : AMem), B_LinkHouse_isWhole_2 X Q x1 σ → X 2 [1, x1] σ) → (∀ (x1 x2 x3 : Int) (σ : AMem), B_LinkHouse_isWhole_3 X Q x1 x2 x3 σ → X 3 [1, x1, x2, x3] σ) → (∀ (x1 x2 x3 : Int) (σ : AMem), B_LinkHouse_isWhole_4 X Q x1 x2 x3 σ → X 4 [1, x1, x2, x3] σ) → (∀ (σ : AMem), B_LinkHouse_isWhole_5 X Q σ → X 5 [1] σ) → X 0 [1] σ) : T_LinkHouse_isWhole [1] σ Q := fun X hX => h X (fun σ h => hX 0 [1] σ h) (fun x1 σ h => hX 1 [1, x1] σ h) (fun x1 σ h => hX 2 [1, x1] σ h) (fun x1 x2 x3 σ h => hX 3 [1, x1, x2, x3] σ h) (fun x1 x2 x3 σ h => hX 4 [1, x1, x2, x3] σ h) (fun σ h => hX 5 [1] σ h)
def c_LinkHouse_reach : List aE := [(0, 1, .aload_n 1, 1, 0, 0, []), (1, 0, .iload_n 2, 1, 0, 0, []), (2, 0, .invokevirtual 348, 3, 26, 7, [3115]), (5, 0, .ifCond .eq 44, 3, 0, 0, []), (8, 0, .aload_n 1, 1, 0, 0, []), (9, 0, .aload_n 1, 1, 0, 0, []), (10, 0, .getfield 351, 3, 7, 17, [2, 0, 1102]), (13, 0, .iload_n 2, 1, 0, 0, []), (14, 0, .iaload, 1, 0, 0, []), (15, 0, .invokevirtual 354, 3, 23, 7, [3116]), (18, 0, .ifCond .eq 31, 3, 0, 0, []), (21, 0, .aload_n 1, 1, 0, 0, []), (22, 0, .getfield 357, 3, 7, 27, [2, 0, 1122]), (25, 0, .aload_n 1, 1, 0, 0, []), (26, 0, .getfield 351, 3, 7, 17, [2, 0, 1102]), (29, 0, .iload_n 2, 1, 0, 0, []), (30, 0, .iaload, 1, 0, 0, []), (31, 0, .baload, 1, 3, 0, []), (32, 0, .ifCond .ne 17, 3, 0, 0, []), (35, 0, .aload_n 1, 1, 0, 0, []), (36, 0, .getfield 360, 3, 7, 26, [2, 0, 1120]), (39, 0, .aload_n 1, 1, 0, 0, []), (40, 0, .getfield 351, 3, 7, 17, [2, 0, 1102]), (43, 0, .iload_n 2, 1, 0, 0, []), (44, 0, .iaload, 1, 0, 0, []), (45, 0, .baload, 1, 3, 0, []), (46, 0, .ifCond .eq 4, 3, 0, 0, []), (49, 0, .return_, 1, 0, 0, []), (50, 0, .aload_n 1, 1, 0, 0, []), (51, 0, .getfield 360, 3, 7, 26, [2, 0, 1120]), (54, 0, .aload_n 1, 1, 0, 0, []), (55, 0, .getfield 351, 3, 7, 17, [2, 0, 1102]), (58, 0, .iload_n 2, 1, 0, 0, []), (59, 0, .iaload, 1, 0, 0, []), (60, 0, .iconst 1, 1, 0, 0, []), (61, 0, .bastore, 1, 3, 0, []), (62, 0, .aload_n 0, 1, 0, 0, []), (63, 0, .iconst 1, 1, 0, 0, []), (64, 0, .putfield 363, 3, 0, 27, [0, 1, 2000]), (67, 0, .return_, 1, 0, 0, [])]
def m_LinkHouse_reach : List aT := [(0, [(0, 2), (1, 2), (2, 0)], [])]
def B_LinkHouse_reach_0 (X : Nat → List Int → AMem → Prop) (Q : Int → AMem → Prop) (x1 x2 : Int) (σ : AMem) : Prop :=
  (if ly_k x1 = 27 then T_Part_isIn [x1, x2] σ (fun r1 σ2 => (if r1 = 0 then
  Q 0 σ2
  else
  (if ly_k x1 = 27 then (if ly_k (am_rd GR σ2 x1 17) = 1 then 0 ≤ x2 ∧ x2 < ly_l (am_rd GR σ2 x1 17) ∧ (if ly_k x1 = 27 then T_Part_isLoaded [x1, (σ2 (am_rd GR σ2 x1 17) x2)] σ2 (fun r3 σ4 => (if r3 = 0 then
    Q 0 σ4
    else
    (if ly_k x1 = 27 then (if ly_k x1 = 27 then (if ly_k (am_rd GR σ4 x1 17) = 1 then 0 ≤ x2 ∧ x2 < ly_l (am_rd GR σ4 x1 17) ∧ (if ly_k (am_rd GR σ4 x1 27) = 3 then 0 ≤ (σ4 (am_rd GR σ4 x1 17) x2) ∧ (σ4 (am_rd GR σ4 x1 17) x2) < ly_l (am_rd GR σ4 x1 27) ∧ (if (σ4 (am_rd GR σ4 x1 27) (σ4 (am_rd GR σ4 x1 17) x2)) = 0 then
      (if ly_k x1 = 27 then (if ly_k x1 = 27 then (if ly_k (am_rd GR σ4 x1 17) = 1 then 0 ≤ x2 ∧ x2 < ly_l (am_rd GR σ4 x1 17) ∧ (if ly_k (am_rd GR σ4 x1 26) = 3 then 0 ≤ (σ4 (am_rd GR σ4 x1 17) x2) ∧ (σ4 (am_rd GR σ4 x1 17) x2) < ly_l (am_rd GR σ4 x1 26) ∧ (if (σ4 (am_rd GR σ4 x1 26) (σ4 (am_rd GR σ4 x1 17) x2)) = 0 then
        (if ly_k x1 = 27 then (if ly_k x1 = 27 then (if ly_k (am_rd GR σ4 x1 17) = 1 then 0 ≤ x2 ∧ x2 < ly_l (am_rd GR σ4 x1 17) ∧ (if ly_k (am_rd GR σ4 x1 26) = 3 then 0 ≤ (σ4 (am_rd GR σ4 x1 17) x2) ∧ (σ4 (am_rd GR σ4 x1 17) x2) < ly_l (am_rd GR σ4 x1 26) ∧ am_let (am_upd σ4 (am_rd GR σ4 x1 26) (σ4 (am_rd GR σ4 x1 17) x2) 1) (fun σ5 => am_let (am_upd σ5 1 27 1) (fun σ6 => Q 0 σ6)) else False) else False) else False) else False)
        else
        Q 0 σ4) else False) else False) else False) else False)
      else
      Q 0 σ4) else False) else False) else False) else False))) else False) else False) else False))) else False)
def B_LinkHouse_reach : (Nat → List Int → AMem → Prop) → (Int → AMem → Prop) → Nat → List Int → AMem → Prop := fun X Q j v σ => am_sel [(am_v3 (fun t x1 x2 σ => if t = 1 then B_LinkHouse_reach_0 X Q x1 x2 σ else False))] j v σ
def T_LinkHouse_reach : List Int → AMem → (Int → AMem → Prop) → Prop := am_T B_LinkHouse_reach
abbrev y_LinkHouse_reach : MethodName := ⟨"LinkHouse", "reach", "(LLinkHouse$Part;I)V"⟩
def a_LinkHouse_reach : AC := (37, (y_LinkHouse_reach, prog_1_method_16_code, 3, (Option.none : Option Jvm.ClassFile.FieldType)), [2, 2, 0], 3, false, { frames := 1, cells := 0, slots := 0, locals := 29 }, T_LinkHouse_reach)
set_option maxRecDepth 100000 in
theorem ms_LinkHouse_reach : am_MSp a_LinkHouse_reach := am_ms_v 3114 1 3113 100014 0 rfl (by decide +kernel)
abbrev k_LinkHouse_reach : List AC := [a_Part_isIn, a_Part_isLoaded]
set_option maxRecDepth 100000 in
theorem s_LinkHouse_reach : (am_chkR { frames := 1, cells := 0, slots := 0, locals := 29 } k_LinkHouse_reach && am_chkN c_LinkHouse_reach { frames := 1, cells := 0, slots := 0, locals := 29 } && c_LinkHouse_reach.all (am_chk "LinkHouse" prog_1_method_16_code 3 (Option.none : Option Jvm.ClassFile.FieldType) k_LinkHouse_reach) && c_LinkHouse_reach.all (am_chkL m_LinkHouse_reach) && decide (m_LinkHouse_reach[0]? = some (0, am_argp 0 [2, 2, 0], [])) && decide (am_argn [2, 2, 0] ≤ 3)) = true := by decide +kernel
set_option maxHeartbeats 150000 in
set_option maxRecDepth 100000 in
theorem h_LinkHouse_reach : ∀ X Q j v σ, B_LinkHouse_reach X Q j v σ → am_at GR k_LinkHouse_reach c_LinkHouse_reach m_LinkHouse_reach X Q 45 j v σ := fun X Q => am_sel_all (P := fun j v σ => am_at GR k_LinkHouse_reach c_LinkHouse_reach m_LinkHouse_reach X Q 45 j v σ) (⟨(am_v3_of (fun t x1 x2 σ h => am_tk (fun e => by subst e; exact fun h => h) h)), trivial⟩)
set_option maxRecDepth 100000 in
theorem S_LinkHouse_reach (l : Launch) (w : AW) : am_S l w GR a_LinkHouse_reach := am_sound (rt := 3) (cal := k_LinkHouse_reach) 37 y_LinkHouse_reach prog_1_method_16_code 3 (Option.none : Option Jvm.ClassFile.FieldType) [2, 2, 0] false { frames := 1, cells := 0, slots := 0, locals := 29 } B_LinkHouse_reach "LinkHouse" c_LinkHouse_reach m_LinkHouse_reach 45 ms_LinkHouse_reach (by decide +kernel) rfl rfl (am_cal (S_Part_isIn l w) (am_cal (S_Part_isLoaded l w) (fun _ h => absurd h List.not_mem_nil))) s_LinkHouse_reach h_LinkHouse_reach
set_option maxRecDepth 100000 in
theorem of_LinkHouse_reach {Q : Int → AMem → Prop} {x1 x2 : Int} {σ : AMem} (h : ∀ X : Nat → List Int → AMem → Prop, (∀ (x1 x2 : Int) (σ : AMem), B_LinkHouse_reach_0 X Q x1 x2 σ → X 0 [1, x1, x2] σ) → X 0 [1, x1, x2] σ) : T_LinkHouse_reach [1, x1, x2] σ Q := fun X hX => h X (fun x1 x2 σ h => hX 0 [1, x1, x2] σ h)
set_option maxRecDepth 100000 in
theorem iff_LinkHouse_reach {Q : Int → AMem → Prop} {X : Nat → List Int → AMem → Prop} {x1 x2 : Int} {σ : AMem} : T_LinkHouse_reach [1, x1, x2] σ Q ↔ B_LinkHouse_reach_0 X Q x1 x2 σ := ⟨fun h => h (fun j v σ => B_LinkHouse_reach X Q j v σ) (fun _ _ _ q => q), fun h _ hX => hX 0 _ _ h⟩
def c_LinkHouse_reachName : List aE := [(0, 1, .aload_n 1, 1, 0, 0, []), (1, 0, .getfield 292, 3, 3, 2, [0, 0, 120]), (4, 0, .iconst 2, 1, 0, 0, []), (5, 0, .if_icmp .ne 34, 3, 0, 0, []), (8, 0, .aload_n 0, 1, 0, 0, []), (9, 0, .aload_n 0, 1, 0, 0, []), (10, 0, .getfield 363, 3, 0, 27, [0, 1, 2000]), (13, 0, .ifCond .ne 10, 3, 0, 0, []), (16, 0, .aload_n 1, 1, 0, 0, []), (17, 0, .getfield 366, 3, 3, 10, [0, 1, 138]), (20, 0, .ifCond .ne 7, 3, 0, 0, []), (23, 2, .iconst 1, 1, 0, 0, []), (24, 0, .goto 4, 3, 0, 0, []), (27, 0, .iconst 0, 1, 0, 0, []), (28, 3, .putfield 363, 3, 0, 27, [0, 1, 2000]), (31, 0, .aload_n 1, 1, 0, 0, []), (32, 0, .iconst 1, 1, 0, 0, []), (33, 0, .putfield 366, 3, 3, 10, [0, 1, 138]), (36, 0, .goto 29, 3, 0, 0, []), (39, 0, .aload_n 1, 1, 0, 0, []), (40, 0, .getfield 292, 3, 3, 2, [0, 0, 120]), (43, 0, .ifCond .le 22, 3, 0, 0, []), (46, 0, .aload_n 1, 1, 0, 0, []), (47, 0, .getfield 369, 3, 3, 11, [2, 0, 141]), (50, 0, .ifnull 15, 3, 0, 0, []), (53, 0, .aload_n 0, 1, 0, 0, []), (54, 0, .aload_n 1, 1, 0, 0, []), (55, 0, .getfield 369, 3, 3, 11, [2, 0, 141]), (58, 0, .aload_n 1, 1, 0, 0, []), (59, 0, .getfield 373, 3, 3, 3, [0, 0, 123]), (62, 0, .invokevirtual 376, 3, 37, 0, [3111]), (65, 0, .return_, 1, 0, 0, [])]
def m_LinkHouse_reachName : List aT := [(0, [(0, 2), (1, 2)], []), (23, [(1, 2)], [2]), (28, [(1, 2)], [0, 2])]
def B_LinkHouse_reachName_0 (X : Nat → List Int → AMem → Prop) (Q : Int → AMem → Prop) (x1 : Int) (σ : AMem) : Prop :=
  (if ly_k x1 = 23 then (if (am_rd GR σ x1 2) = 2 then
  (if (σ 1 27) = 0 then
    (if ly_k x1 = 23 then (if (am_rd GR σ x1 10) = 0 then
      X 1 [x1, 1] σ
      else
      X 2 [x1, 0, 1] σ) else False)
    else
    X 1 [x1, 1] σ)
  else
  (if ly_k x1 = 23 then (if 0 < (am_rd GR σ x1 2) then
    (if ly_k x1 = 23 then (if (am_rd GR σ x1 11) = 0 then
      Q 0 σ
      else
      (if ly_k x1 = 23 then (if ly_k x1 = 23 then T_LinkHouse_reach [1, (am_rd GR σ x1 11), (am_rd GR σ x1 3)] σ (fun r1 σ2 => Q 0 σ2) else False) else False)) else False)
    else
    Q 0 σ) else False)) else False)
def B_LinkHouse_reachName_1 (X : Nat → List Int → AMem → Prop) (Q : Int → AMem → Prop) (x1 s0 : Int) (σ : AMem) : Prop :=
  X 2 [x1, 1, s0] σ
def B_LinkHouse_reachName_2 (X : Nat → List Int → AMem → Prop) (Q : Int → AMem → Prop) (x1 s0 s1 : Int) (σ : AMem) : Prop :=
  (if ly_k s1 = 20 then (if ly_fin s1 27 = 0 then (if s0 = 0 ∨ s0 = 1 then am_let (am_upd σ s1 27 s0) (fun σ1 => (if ly_k x1 = 23 then (if ly_fin x1 10 = 0 then am_let (am_upd σ1 x1 10 1) (fun σ2 => Q 0 σ2) else False) else False)) else False) else False) else False)
def B_LinkHouse_reachName : (Nat → List Int → AMem → Prop) → (Int → AMem → Prop) → Nat → List Int → AMem → Prop := fun X Q j v σ => am_sel [(am_v2 (fun t x1 σ => if t = 1 then B_LinkHouse_reachName_0 X Q x1 σ else False)), (am_v2 (fun x1 s0 σ => B_LinkHouse_reachName_1 X Q x1 s0 σ)), (am_v3 (fun x1 s0 s1 σ => B_LinkHouse_reachName_2 X Q x1 s0 s1 σ))] j v σ
def T_LinkHouse_reachName : List Int → AMem → (Int → AMem → Prop) → Prop := am_T B_LinkHouse_reachName
abbrev y_LinkHouse_reachName : MethodName := ⟨"LinkHouse", "reachName", "(LLinkHouse$Name;)V"⟩
def a_LinkHouse_reachName : AC := (38, (y_LinkHouse_reachName, prog_1_method_17_code, 2, (Option.none : Option Jvm.ClassFile.FieldType)), [2, 2], 3, false, { frames := 2, cells := 0, slots := 0, locals := 59 }, T_LinkHouse_reachName)
set_option maxRecDepth 100000 in
theorem ms_LinkHouse_reachName : am_MSp a_LinkHouse_reachName := am_ms_v 3110 1 3109 100013 0 rfl (by decide +kernel)
abbrev k_LinkHouse_reachName : List AC := [a_LinkHouse_reach]
set_option maxRecDepth 100000 in
theorem s_LinkHouse_reachName : (am_chkR { frames := 2, cells := 0, slots := 0, locals := 59 } k_LinkHouse_reachName && am_chkN c_LinkHouse_reachName { frames := 2, cells := 0, slots := 0, locals := 59 } && c_LinkHouse_reachName.all (am_chk "LinkHouse" prog_1_method_17_code 2 (Option.none : Option Jvm.ClassFile.FieldType) k_LinkHouse_reachName) && c_LinkHouse_reachName.all (am_chkL m_LinkHouse_reachName) && decide (m_LinkHouse_reachName[0]? = some (0, am_argp 0 [2, 2], [])) && decide (am_argn [2, 2] ≤ 2)) = true := by decide +kernel
set_option maxHeartbeats 150000 in
set_option maxRecDepth 100000 in
theorem h_LinkHouse_reachName : ∀ X Q j v σ, B_LinkHouse_reachName X Q j v σ → am_at GR k_LinkHouse_reachName c_LinkHouse_reachName m_LinkHouse_reachName X Q 37 j v σ := fun X Q => am_sel_all (P := fun j v σ => am_at GR k_LinkHouse_reachName c_LinkHouse_reachName m_LinkHouse_reachName X Q 37 j v σ) (⟨(am_v2_of (fun t x1 σ h => am_tk (fun e => by subst e; exact fun h => h) h)), ⟨(am_v2_of (fun x1 s0 σ h => h)), ⟨(am_v3_of (fun x1 s0 s1 σ h => h)), trivial⟩⟩⟩)
set_option maxRecDepth 100000 in
theorem S_LinkHouse_reachName (l : Launch) (w : AW) : am_S l w GR a_LinkHouse_reachName := am_sound (rt := 3) (cal := k_LinkHouse_reachName) 38 y_LinkHouse_reachName prog_1_method_17_code 2 (Option.none : Option Jvm.ClassFile.FieldType) [2, 2] false { frames := 2, cells := 0, slots := 0, locals := 59 } B_LinkHouse_reachName "LinkHouse" c_LinkHouse_reachName m_LinkHouse_reachName 37 ms_LinkHouse_reachName (by decide +kernel) rfl rfl (am_cal (S_LinkHouse_reach l w) (fun _ h => absurd h List.not_mem_nil)) s_LinkHouse_reachName h_LinkHouse_reachName
set_option maxRecDepth 100000 in
theorem of_LinkHouse_reachName {Q : Int → AMem → Prop} {x1 : Int} {σ : AMem} (h : ∀ X : Nat → List Int → AMem → Prop, (∀ (x1 : Int) (σ : AMem), B_LinkHouse_reachName_0 X Q x1 σ → X 0 [1, x1] σ) → (∀ (x1 s0 : Int) (σ : AMem), B_LinkHouse_reachName_1 X Q x1 s0 σ → X 1 [x1, s0] σ) → (∀ (x1 s0 s1 : Int) (σ : AMem), B_LinkHouse_reachName_2 X Q x1 s0 s1 σ → X 2 [x1, s0, s1] σ) → X 0 [1, x1] σ) : T_LinkHouse_reachName [1, x1] σ Q := fun X hX => h X (fun x1 σ h => hX 0 [1, x1] σ h) (fun x1 s0 σ h => hX 1 [x1, s0] σ h) (fun x1 s0 s1 σ h => hX 2 [x1, s0, s1] σ h)
def c_Part_isSites : List aE := [(0, 1, .aload_n 0, 1, 0, 0, []), (1, 0, .getfield 9, 3, 7, 8, [2, 0, 1082]), (4, 0, .iload_n 1, 1, 0, 0, []), (5, 0, .iaload, 1, 0, 0, []), (6, 0, .iconst 4, 1, 0, 0, []), (7, 0, .if_icmp .ne 42, 3, 0, 0, []), (10, 0, .aload_n 0, 1, 0, 0, []), (11, 0, .getfield 18, 3, 7, 10, [2, 0, 1085]), (14, 0, .iload_n 1, 1, 0, 0, []), (15, 0, .iaload, 1, 0, 0, []), (16, 0, .ifCond .lt 33, 3, 0, 0, []), (19, 0, .aload_n 0, 1, 0, 0, []), (20, 0, .getfield 18, 3, 7, 10, [2, 0, 1085]), (23, 0, .iload_n 1, 1, 0, 0, []), (24, 0, .iaload, 1, 0, 0, []), (25, 0, .aload_n 0, 1, 0, 0, []), (26, 0, .getfield 142, 3, 7, 3, [0, 0, 1072]), (29, 0, .if_icmp .ge 20, 3, 0, 0, []), (32, 0, .aload_n 0, 1, 0, 0, []), (33, 0, .aload_n 0, 1, 0, 0, []), (34, 0, .getfield 18, 3, 7, 10, [2, 0, 1085]), (37, 0, .iload_n 1, 1, 0, 0, []), (38, 0, .iaload, 1, 0, 0, []), (39, 0, .invokevirtual 155, 3, 23, 7, [3058]), (42, 0, .ifCond .eq 7, 3, 0, 0, []), (45, 0, .iconst 1, 1, 0, 0, []), (46, 0, .goto 4, 3, 0, 0, []), (49, 0, .iconst 0, 1, 0, 0, []), (50, 0, .ireturn, 1, 1, 0, [])]
def m_Part_isSites : List aT := [(0, [(0, 2), (1, 0)], [])]
def B_Part_isSites_0 (X : Nat → List Int → AMem → Prop) (Q : Int → AMem → Prop) (x0 x1 : Int) (σ : AMem) : Prop :=
  (if ly_k x0 = 27 then (if ly_k (am_rd GR σ x0 8) = 1 then 0 ≤ x1 ∧ x1 < ly_l (am_rd GR σ x0 8) ∧ (if (σ (am_rd GR σ x0 8) x1) = 4 then
  (if ly_k x0 = 27 then (if ly_k (am_rd GR σ x0 10) = 1 then 0 ≤ x1 ∧ x1 < ly_l (am_rd GR σ x0 10) ∧ (if (σ (am_rd GR σ x0 10) x1) < 0 then
    Q 0 σ
    else
    (if ly_k x0 = 27 then (if ly_k (am_rd GR σ x0 10) = 1 then 0 ≤ x1 ∧ x1 < ly_l (am_rd GR σ x0 10) ∧ (if ly_k x0 = 27 then (if (σ (am_rd GR σ x0 10) x1) < (am_rd GR σ x0 3) then
      (if ly_k x0 = 27 then (if ly_k (am_rd GR σ x0 10) = 1 then 0 ≤ x1 ∧ x1 < ly_l (am_rd GR σ x0 10) ∧ (if ly_k x0 = 27 then T_Part_isLoaded [x0, (σ (am_rd GR σ x0 10) x1)] σ (fun r1 σ2 => (if r1 = 0 then
        Q 0 σ2
        else
        Q 1 σ2)) else False) else False) else False)
      else
      Q 0 σ) else False) else False) else False)) else False) else False)
  else
  Q 0 σ) else False) else False)
def B_Part_isSites : (Nat → List Int → AMem → Prop) → (Int → AMem → Prop) → Nat → List Int → AMem → Prop := fun X Q j v σ => am_sel [(am_v2 (fun x0 x1 σ => B_Part_isSites_0 X Q x0 x1 σ))] j v σ
def T_Part_isSites : List Int → AMem → (Int → AMem → Prop) → Prop := am_T B_Part_isSites
abbrev y_Part_isSites : MethodName := ⟨"LinkHouse$Part", "isSites", "(I)Z"⟩
def a_Part_isSites : AC := (39, (y_Part_isSites, prog_6_method_15_code, 2, (Option.some Jvm.ClassFile.FieldType.boolean)), [2, 0], 0, false, { frames := 1, cells := 0, slots := 0, locals := 29 }, T_Part_isSites)
set_option maxRecDepth 100000 in
theorem ms_Part_isSites : am_MSp a_Part_isSites := am_ms_v 3120 8 3118 3119 7 rfl (by decide +kernel)
abbrev k_Part_isSites : List AC := [a_Part_isLoaded]
set_option maxRecDepth 100000 in
theorem s_Part_isSites : (am_chkR { frames := 1, cells := 0, slots := 0, locals := 29 } k_Part_isSites && am_chkN c_Part_isSites { frames := 1, cells := 0, slots := 0, locals := 29 } && c_Part_isSites.all (am_chk "LinkHouse$Part" prog_6_method_15_code 2 (Option.some Jvm.ClassFile.FieldType.boolean) k_Part_isSites) && c_Part_isSites.all (am_chkL m_Part_isSites) && decide (m_Part_isSites[0]? = some (0, am_argp 0 [2, 0], [])) && decide (am_argn [2, 0] ≤ 2)) = true := by decide +kernel
set_option maxHeartbeats 150000 in
set_option maxRecDepth 100000 in
theorem h_Part_isSites : ∀ X Q j v σ, B_Part_isSites X Q j v σ → am_at GR k_Part_isSites c_Part_isSites m_Part_isSites X Q 34 j v σ := fun X Q => am_sel_all (P := fun j v σ => am_at GR k_Part_isSites c_Part_isSites m_Part_isSites X Q 34 j v σ) (⟨(am_v2_of (fun x0 x1 σ h => h)), trivial⟩)
set_option maxRecDepth 100000 in
theorem S_Part_isSites (l : Launch) (w : AW) : am_S l w GR a_Part_isSites := am_sound (rt := 0) (cal := k_Part_isSites) 39 y_Part_isSites prog_6_method_15_code 2 (Option.some Jvm.ClassFile.FieldType.boolean) [2, 0] false { frames := 1, cells := 0, slots := 0, locals := 29 } B_Part_isSites "LinkHouse$Part" c_Part_isSites m_Part_isSites 34 ms_Part_isSites (by decide +kernel) rfl rfl (am_cal (S_Part_isLoaded l w) (fun _ h => absurd h List.not_mem_nil)) s_Part_isSites h_Part_isSites
set_option maxRecDepth 100000 in
theorem of_Part_isSites {Q : Int → AMem → Prop} {x0 x1 : Int} {σ : AMem} (h : ∀ X : Nat → List Int → AMem → Prop, (∀ (x0 x1 : Int) (σ : AMem), B_Part_isSites_0 X Q x0 x1 σ → X 0 [x0, x1] σ) → X 0 [x0, x1] σ) : T_Part_isSites [x0, x1] σ Q := fun X hX => h X (fun x0 x1 σ h => hX 0 [x0, x1] σ h)
set_option maxRecDepth 100000 in
theorem iff_Part_isSites {Q : Int → AMem → Prop} {X : Nat → List Int → AMem → Prop} {x0 x1 : Int} {σ : AMem} : T_Part_isSites [x0, x1] σ Q ↔ B_Part_isSites_0 X Q x0 x1 σ := ⟨fun h => h (fun j v σ => B_Part_isSites X Q j v σ) (fun _ _ _ q => q), fun h _ hX => hX 0 _ _ h⟩
def c_LinkHouse_reachSite : List aE := [(0, 1, .aload_n 1, 1, 0, 0, []), (1, 0, .lload_n 2, 1, 0, 0, []), (2, 0, .ldc2_w 402, 3, 12, 0, [3125]), (5, 0, .ladd, 1, 0, 0, []), (6, 0, .iconst 4, 1, 0, 0, []), (7, 0, .invokevirtual 404, 3, 11, 7, [3126]), (10, 0, .l2i, 1, 0, 0, []), (11, 0, .istore 4, 2, 0, 0, []), (13, 0, .aload_n 1, 1, 0, 0, []), (14, 0, .lload_n 2, 1, 0, 0, []), (15, 0, .ldc2_w 179, 3, 8, 0, [3127]), (18, 0, .ladd, 1, 0, 0, []), (19, 0, .iconst 4, 1, 0, 0, []), (20, 0, .invokevirtual 404, 3, 11, 7, [3126]), (23, 0, .lconst 0, 1, 0, 0, []), (24, 0, .lcmp, 1, 0, 0, []), (25, 0, .ifCond .eq 8, 3, 0, 0, []), (28, 0, .iload 4, 2, 0, 0, []), (30, 0, .ifCond .ne 4, 3, 0, 0, []), (33, 0, .return_, 1, 0, 0, []), (34, 0, .aload_n 1, 1, 0, 0, []), (35, 0, .getfield 266, 3, 7, 16, [2, 0, 1100]), (38, 0, .iload 4, 2, 0, 0, []), (40, 0, .iaload, 1, 0, 0, []), (41, 0, .ifCond .ne 13, 3, 0, 0, []), (44, 0, .aload_n 0, 1, 0, 0, []), (45, 0, .aload_n 1, 1, 0, 0, []), (46, 0, .iload 4, 2, 0, 0, []), (48, 0, .invokevirtual 376, 3, 37, 0, [3111]), (51, 0, .goto 14, 3, 0, 0, []), (54, 0, .aload_n 0, 1, 0, 0, []), (55, 0, .aload_n 1, 1, 0, 0, []), (56, 0, .getfield 269, 3, 7, 25, [2, 0, 1118]), (59, 0, .iload 4, 2, 0, 0, []), (61, 0, .aaload, 1, 6, 0, []), (62, 0, .invokevirtual 384, 3, 38, 0, [3107]), (65, 0, .return_, 1, 0, 0, [])]
def m_LinkHouse_reachSite : List aT := [(0, [(0, 2), (1, 2), (2, 1)], [])]
def B_LinkHouse_reachSite_0 (X : Nat → List Int → AMem → Prop) (Q : Int → AMem → Prop) (x1 x2 : Int) (σ : AMem) : Prop :=
  (if ly_k x1 = 27 then T_Part_number [x1, (w64 (x2 + 12)), 4] σ (fun r1 σ2 => (if ly_k x1 = 27 then T_Part_number [x1, (w64 (x2 + 8)), 4] σ2 (fun r3 σ4 => (if r3 = 0 then
  Q 0 σ4
  else
  (if (w32 r1) = 0 then
    Q 0 σ4
    else
    (if ly_k x1 = 27 then (if ly_k (am_rd GR σ4 x1 16) = 1 then 0 ≤ (w32 r1) ∧ (w32 r1) < ly_l (am_rd GR σ4 x1 16) ∧ (if (σ4 (am_rd GR σ4 x1 16) (w32 r1)) = 0 then
      T_LinkHouse_reach [1, x1, (w32 r1)] σ4 (fun r7 σ8 => Q 0 σ8)
      else
      (if ly_k x1 = 27 then (if ly_k (am_rd GR σ4 x1 25) = 6 then 0 ≤ (w32 r1) ∧ (w32 r1) < ly_l (am_rd GR σ4 x1 25) ∧ T_LinkHouse_reachName [1, (σ4 (am_rd GR σ4 x1 25) (w32 r1))] σ4 (fun r5 σ6 => Q 0 σ6) else False) else False)) else False) else False)))) else False)) else False)
def B_LinkHouse_reachSite : (Nat → List Int → AMem → Prop) → (Int → AMem → Prop) → Nat → List Int → AMem → Prop := fun X Q j v σ => am_sel [(am_v3 (fun t x1 x2 σ => if t = 1 then B_LinkHouse_reachSite_0 X Q x1 x2 σ else False))] j v σ
def T_LinkHouse_reachSite : List Int → AMem → (Int → AMem → Prop) → Prop := am_T B_LinkHouse_reachSite
abbrev y_LinkHouse_reachSite : MethodName := ⟨"LinkHouse", "reachSite", "(LLinkHouse$Part;J)V"⟩
def a_LinkHouse_reachSite : AC := (40, (y_LinkHouse_reachSite, prog_1_method_19_code, 5, (Option.none : Option Jvm.ClassFile.FieldType)), [2, 2, 1], 3, false, { frames := 3, cells := 0, slots := 0, locals := 88 }, T_LinkHouse_reachSite)
set_option maxRecDepth 100000 in
theorem ms_LinkHouse_reachSite : am_MSp a_LinkHouse_reachSite := am_ms_v 3124 1 3123 100015 0 rfl (by decide +kernel)
abbrev k_LinkHouse_reachSite : List AC := [a_Part_number, a_LinkHouse_reach, a_LinkHouse_reachName]
set_option maxRecDepth 100000 in
theorem s_LinkHouse_reachSite : (am_chkR { frames := 3, cells := 0, slots := 0, locals := 88 } k_LinkHouse_reachSite && am_chkN c_LinkHouse_reachSite { frames := 3, cells := 0, slots := 0, locals := 88 } && c_LinkHouse_reachSite.all (am_chk "LinkHouse" prog_1_method_19_code 5 (Option.none : Option Jvm.ClassFile.FieldType) k_LinkHouse_reachSite) && c_LinkHouse_reachSite.all (am_chkL m_LinkHouse_reachSite) && decide (m_LinkHouse_reachSite[0]? = some (0, am_argp 0 [2, 2, 1], [])) && decide (am_argn [2, 2, 1] ≤ 5)) = true := by decide +kernel
set_option maxHeartbeats 150000 in
set_option maxRecDepth 100000 in
theorem h_LinkHouse_reachSite : ∀ X Q j v σ, B_LinkHouse_reachSite X Q j v σ → am_at GR k_LinkHouse_reachSite c_LinkHouse_reachSite m_LinkHouse_reachSite X Q 42 j v σ := fun X Q => am_sel_all (P := fun j v σ => am_at GR k_LinkHouse_reachSite c_LinkHouse_reachSite m_LinkHouse_reachSite X Q 42 j v σ) (⟨(am_v3_of (fun t x1 x2 σ h => am_tk (fun e => by subst e; exact fun h => h) h)), trivial⟩)
set_option maxRecDepth 100000 in
theorem S_LinkHouse_reachSite (l : Launch) (w : AW) : am_S l w GR a_LinkHouse_reachSite := am_sound (rt := 3) (cal := k_LinkHouse_reachSite) 40 y_LinkHouse_reachSite prog_1_method_19_code 5 (Option.none : Option Jvm.ClassFile.FieldType) [2, 2, 1] false { frames := 3, cells := 0, slots := 0, locals := 88 } B_LinkHouse_reachSite "LinkHouse" c_LinkHouse_reachSite m_LinkHouse_reachSite 42 ms_LinkHouse_reachSite (by decide +kernel) rfl rfl (am_cal (S_Part_number l w) (am_cal (S_LinkHouse_reach l w) (am_cal (S_LinkHouse_reachName l w) (fun _ h => absurd h List.not_mem_nil)))) s_LinkHouse_reachSite h_LinkHouse_reachSite
set_option maxRecDepth 100000 in
theorem of_LinkHouse_reachSite {Q : Int → AMem → Prop} {x1 x2 : Int} {σ : AMem} (h : ∀ X : Nat → List Int → AMem → Prop, (∀ (x1 x2 : Int) (σ : AMem), B_LinkHouse_reachSite_0 X Q x1 x2 σ → X 0 [1, x1, x2] σ) → X 0 [1, x1, x2] σ) : T_LinkHouse_reachSite [1, x1, x2] σ Q := fun X hX => h X (fun x1 x2 σ h => hX 0 [1, x1, x2] σ h)
set_option maxRecDepth 100000 in
theorem iff_LinkHouse_reachSite {Q : Int → AMem → Prop} {X : Nat → List Int → AMem → Prop} {x1 x2 : Int} {σ : AMem} : T_LinkHouse_reachSite [1, x1, x2] σ Q ↔ B_LinkHouse_reachSite_0 X Q x1 x2 σ := ⟨fun h => h (fun j v σ => B_LinkHouse_reachSite X Q j v σ) (fun _ _ _ q => q), fun h _ hX => hX 0 _ _ h⟩
def c_LinkHouse_reachAll : List aE := [(0, 1, .iconst 0, 1, 0, 0, []), (1, 0, .istore_n 1, 1, 0, 0, []), (2, 2, .iload_n 1, 1, 0, 0, []), (3, 0, .aload_n 0, 1, 0, 0, []), (4, 0, .getfield 259, 3, 0, 21, [0, 0, 1234]), (7, 0, .if_icmp .ge 19, 3, 0, 0, []), (10, 0, .aload_n 0, 1, 0, 0, []), (11, 0, .getfield 42, 3, 0, 7, [2, 0, 1220]), (14, 0, .iload_n 1, 1, 0, 0, []), (15, 0, .aaload, 1, 5, 0, []), (16, 0, .iconst 0, 1, 0, 0, []), (17, 0, .invokevirtual 244, 3, 24, 7, [3054]), (20, 0, .iinc 1 1, 3, 0, 0, []), (23, 0, .goto (-21), 3, 0, 0, []), (26, 0, .iconst 0, 1, 0, 0, []), (27, 0, .istore_n 1, 1, 0, 0, []), (28, 3, .iload_n 1, 1, 0, 0, []), (29, 0, .aload_n 0, 1, 0, 0, []), (30, 0, .getfield 25, 3, 0, 3, [2, 0, 1216]), (33, 0, .getfield 380, 3, 2, 3, [0, 0, 198]), (36, 0, .if_icmp .ge 22, 3, 0, 0, []), (39, 0, .aload_n 0, 1, 0, 0, []), (40, 0, .getfield 25, 3, 0, 3, [2, 0, 1216]), (43, 0, .getfield 381, 3, 2, 0, [2, 0, 193]), (46, 0, .iload_n 1, 1, 0, 0, []), (47, 0, .aaload, 1, 6, 0, []), (48, 0, .iconst 0, 1, 0, 0, []), (49, 0, .putfield 366, 3, 3, 10, [0, 1, 138]), (52, 0, .iinc 1 1, 3, 0, 0, []), (55, 0, .goto (-27), 3, 0, 0, []), (58, 0, .aload_n 0, 1, 0, 0, []), (59, 0, .aload_n 0, 1, 0, 0, []), (60, 0, .getfield 25, 3, 0, 3, [2, 0, 1216]), (63, 0, .aload_n 0, 1, 0, 0, []), (64, 0, .getfield 88, 3, 0, 28, [2, 0, 2001]), (67, 0, .aload_n 0, 1, 0, 0, []), (68, 0, .getfield 88, 3, 0, 28, [2, 0, 2001]), (71, 0, .arraylength, 1, 2, 0, []), (72, 0, .invokevirtual 342, 3, 6, 2, [3094]), (75, 0, .invokevirtual 384, 3, 38, 0, [3107]), (78, 0, .aload_n 0, 1, 0, 0, []), (79, 0, .iconst 1, 1, 0, 0, []), (80, 0, .putfield 363, 3, 0, 27, [0, 1, 2000]), (83, 4, .aload_n 0, 1, 0, 0, []), (84, 0, .getfield 363, 3, 0, 27, [0, 1, 2000]), (87, 0, .ifCond .eq 113, 3, 0, 0, []), (90, 0, .aload_n 0, 1, 0, 0, []), (91, 0, .iconst 0, 1, 0, 0, []), (92, 0, .putfield 363, 3, 0, 27, [0, 1, 2000]), (95, 0, .iconst 0, 1, 0, 0, []), (96, 0, .istore_n 1, 1, 0, 0, []), (97, 5, .iload_n 1, 1, 0, 0, []), (98, 0, .aload_n 0, 1, 0, 0, []), (99, 0, .getfield 259, 3, 0, 21, [0, 0, 1234]), (102, 0, .if_icmp .ge 95, 3, 0, 0, []), (105, 0, .aload_n 0, 1, 0, 0, []), (106, 0, .getfield 42, 3, 0, 7, [2, 0, 1220]), (109, 0, .iload_n 1, 1, 0, 0, []), (110, 0, .aaload, 1, 5, 0, []), (111, 0, .astore_n 2, 1, 0, 0, []), (112, 0, .iconst 0, 1, 0, 0, []), (113, 0, .istore_n 3, 1, 0, 0, []), (114, 6, .iload_n 3, 1, 0, 0, []), (115, 0, .aload_n 2, 1, 0, 0, []), (116, 0, .getfield 219, 3, 7, 3, [0, 0, 1073]), (119, 0, .if_icmp .ge 72, 3, 0, 0, []), (122, 0, .lconst 0, 1, 0, 0, []), (123, 0, .lstore 4, 2, 0, 0, []), (125, 7, .aload_n 2, 1, 0, 0, []), (126, 0, .iload_n 3, 1, 0, 0, []), (127, 0, .invokevirtual 387, 3, 39, 7, [3117]), (130, 0, .ifCond .eq 55, 3, 0, 0, []), (133, 0, .aload_n 2, 1, 0, 0, []), (134, 0, .getfield 360, 3, 7, 26, [2, 0, 1120]), (137, 0, .aload_n 2, 1, 0, 0, []), (138, 0, .getfield 226, 3, 7, 10, [2, 0, 1086]), (141, 0, .iload_n 3, 1, 0, 0, []), (142, 0, .iaload, 1, 0, 0, []), (143, 0, .baload, 1, 3, 0, []), (144, 0, .ifCond .eq 41, 3, 0, 0, []), (147, 0, .lload 4, 2, 0, 0, []), (149, 0, .aload_n 2, 1, 0, 0, []), (150, 0, .getfield 390, 3, 7, 13, [2, 0, 1094]), (153, 0, .iload_n 3, 1, 0, 0, []), (154, 0, .laload, 1, 0, 0, []), (155, 0, .lcmp, 1, 0, 0, []), (156, 0, .ifCond .ge 29, 3, 0, 0, []), (159, 0, .aload_n 0, 1, 0, 0, []), (160, 0, .aload_n 2, 1, 0, 0, []), (161, 0, .aload_n 2, 1, 0, 0, []), (162, 0, .getfield 393, 3, 7, 11, [2, 0, 1089]), (165, 0, .iload_n 3, 1, 0, 0, []), (166, 0, .iaload, 1, 0, 0, []), (167, 0, .i2l, 1, 0, 0, []), (168, 0, .lload 4, 2, 0, 0, []), (170, 0, .ladd, 1, 0, 0, []), (171, 0, .invokevirtual 396, 3, 40, 0, [3121]), (174, 0, .lload 4, 2, 0, 0, []), (176, 0, .ldc2_w 400, 3, 24, 0, [3128]), (179, 0, .ladd, 1, 0, 0, []), (180, 0, .lstore 4, 2, 0, 0, []), (182, 0, .goto (-57), 3, 0, 0, []), (185, 8, .iinc 3 1, 3, 0, 0, []), (188, 0, .goto (-74), 3, 0, 0, []), (191, 0, .iinc 1 1, 3, 0, 0, []), (194, 0, .goto (-97), 3, 0, 0, []), (197, 0, .goto (-114), 3, 0, 0, []), (200, 0, .return_, 1, 0, 0, [])]
def m_LinkHouse_reachAll : List aT := [(0, [(0, 2)], []), (2, [(0, 2), (1, 0)], []), (28, [(0, 2), (1, 0)], []), (83, [(0, 2)], []), (97, [(0, 2), (1, 0)], []), (114, [(0, 2), (1, 0), (2, 2), (3, 0)], []), (125, [(0, 2), (1, 0), (2, 2), (3, 0), (4, 1)], []), (185, [(0, 2), (1, 0), (2, 2), (3, 0)], [])]
def B_LinkHouse_reachAll_0 (X : Nat → List Int → AMem → Prop) (Q : Int → AMem → Prop) (σ : AMem) : Prop :=
  X 1 [1, 0] σ
def B_LinkHouse_reachAll_1 (X : Nat → List Int → AMem → Prop) (Q : Int → AMem → Prop) (x1 : Int) (σ : AMem) : Prop :=
  (if x1 < (σ 1 21) then
  0 ≤ x1 ∧ x1 < 64 ∧ (if ly_k (σ 8279 x1) = 27 then T_Part_live [(σ 8279 x1), 0] σ (fun r1 σ2 => am_r32 (x1 + 1) ∧ X 1 [1, (x1 + 1)] σ2) else False)
  else
  X 2 [1, 0] σ)
def B_LinkHouse_reachAll_2 (X : Nat → List Int → AMem → Prop) (Q : Int → AMem → Prop) (x1 : Int) (σ : AMem) : Prop :=
  (if x1 < (σ 16 3) then
  0 ≤ x1 ∧ x1 < 4128 ∧ (if ly_k (σ 17 x1) = 23 then (if ly_fin (σ 17 x1) 10 = 0 then am_let (am_upd σ (σ 17 x1) 10 0) (fun σ6 => am_r32 (x1 + 1) ∧ X 2 [1, (x1 + 1)] σ6) else False) else False)
  else
  T_Names_findRow [16, 8293, 6] σ (fun r1 σ2 => T_LinkHouse_reachName [1, r1] σ2 (fun r3 σ4 => am_let (am_upd σ4 1 27 1) (fun σ5 => X 3 [1] σ5))))
def B_LinkHouse_reachAll_3 (X : Nat → List Int → AMem → Prop) (Q : Int → AMem → Prop) (σ : AMem) : Prop :=
  (if (σ 1 27) = 0 then
  Q 0 σ
  else
  am_let (am_upd σ 1 27 0) (fun σ1 => X 4 [1, 0] σ1))
def B_LinkHouse_reachAll_4 (X : Nat → List Int → AMem → Prop) (Q : Int → AMem → Prop) (x1 : Int) (σ : AMem) : Prop :=
  (if x1 < (σ 1 21) then
  0 ≤ x1 ∧ x1 < 64 ∧ X 5 [1, x1, (σ 8279 x1), 0] σ
  else
  X 3 [1] σ)
def B_LinkHouse_reachAll_5 (X : Nat → List Int → AMem → Prop) (Q : Int → AMem → Prop) (x1 x2 x3 : Int) (σ : AMem) : Prop :=
  (if ly_k x2 = 27 then (if x3 < (am_rd GR σ x2 3) then
  X 6 [1, x1, x2, x3, 0] σ
  else
  am_r32 (x1 + 1) ∧ X 4 [1, (x1 + 1)] σ) else False)
def B_LinkHouse_reachAll_6 (X : Nat → List Int → AMem → Prop) (Q : Int → AMem → Prop) (x1 x2 x3 x4 : Int) (σ : AMem) : Prop :=
  (if ly_k x2 = 27 then T_Part_isSites [x2, x3] σ (fun r1 σ2 => (if r1 = 0 then
  X 7 [1, x1, x2, x3] σ2
  else
  (if ly_k x2 = 27 then (if ly_k x2 = 27 then (if ly_k (am_rd GR σ2 x2 10) = 1 then 0 ≤ x3 ∧ x3 < ly_l (am_rd GR σ2 x2 10) ∧ (if ly_k (am_rd GR σ2 x2 26) = 3 then 0 ≤ (σ2 (am_rd GR σ2 x2 10) x3) ∧ (σ2 (am_rd GR σ2 x2 10) x3) < ly_l (am_rd GR σ2 x2 26) ∧ (if (σ2 (am_rd GR σ2 x2 26) (σ2 (am_rd GR σ2 x2 10) x3)) = 0 then
    X 7 [1, x1, x2, x3] σ2
    else
    (if ly_k x2 = 27 then (if ly_k (am_rd GR σ2 x2 13) = 4 then 0 ≤ x3 ∧ x3 < ly_l (am_rd GR σ2 x2 13) ∧ (if x4 < (σ2 (am_rd GR σ2 x2 13) x3) then
      (if ly_k x2 = 27 then (if ly_k (am_rd GR σ2 x2 11) = 1 then 0 ≤ x3 ∧ x3 < ly_l (am_rd GR σ2 x2 11) ∧ T_LinkHouse_reachSite [1, x2, (w64 ((σ2 (am_rd GR σ2 x2 11) x3) + x4))] σ2 (fun r3 σ4 => X 6 [1, x1, x2, x3, (w64 (x4 + 24))] σ4) else False) else False)
      else
      X 7 [1, x1, x2, x3] σ2) else False) else False)) else False) else False) else False) else False))) else False)
def B_LinkHouse_reachAll_7 (X : Nat → List Int → AMem → Prop) (Q : Int → AMem → Prop) (x1 x2 x3 : Int) (σ : AMem) : Prop :=
  am_r32 (x3 + 1) ∧ X 5 [1, x1, x2, (x3 + 1)] σ
def B_LinkHouse_reachAll : (Nat → List Int → AMem → Prop) → (Int → AMem → Prop) → Nat → List Int → AMem → Prop := fun X Q j v σ => am_sel [(am_v1 (fun t σ => if t = 1 then B_LinkHouse_reachAll_0 X Q σ else False)), (am_v2 (fun t x1 σ => if t = 1 then B_LinkHouse_reachAll_1 X Q x1 σ else False)), (am_v2 (fun t x1 σ => if t = 1 then B_LinkHouse_reachAll_2 X Q x1 σ else False)), (am_v1 (fun t σ => if t = 1 then B_LinkHouse_reachAll_3 X Q σ else False)), (am_v2 (fun t x1 σ => if t = 1 then B_LinkHouse_reachAll_4 X Q x1 σ else False)), (am_v4 (fun t x1 x2 x3 σ => if t = 1 then B_LinkHouse_reachAll_5 X Q x1 x2 x3 σ else False)), (am_v5 (fun t x1 x2 x3 x4 σ => if t = 1 then B_LinkHouse_reachAll_6 X Q x1 x2 x3 x4 σ else False)), (am_v4 (fun t x1 x2 x3 σ => if t = 1 then B_LinkHouse_reachAll_7 X Q x1 x2 x3 σ else False))] j v σ
def T_LinkHouse_reachAll : List Int → AMem → (Int → AMem → Prop) → Prop := am_T B_LinkHouse_reachAll
abbrev y_LinkHouse_reachAll : MethodName := ⟨"LinkHouse", "reachAll", "()V"⟩
def a_LinkHouse_reachAll : AC := (41, (y_LinkHouse_reachAll, prog_1_method_18_code, 6, (Option.none : Option Jvm.ClassFile.FieldType)), [2], 3, false, { frames := 4, cells := 0, slots := 0, locals := 120 }, T_LinkHouse_reachAll)
set_option maxRecDepth 100000 in
theorem ms_LinkHouse_reachAll : am_MSp a_LinkHouse_reachAll := am_ms_v 3106 1 3105 100012 0 rfl (by decide +kernel)
abbrev k_LinkHouse_reachAll : List AC := [a_Part_live, a_Names_findRow, a_LinkHouse_reachName, a_Part_isSites, a_LinkHouse_reachSite]
set_option maxRecDepth 100000 in
theorem s_LinkHouse_reachAll : (am_chkR { frames := 4, cells := 0, slots := 0, locals := 120 } k_LinkHouse_reachAll && am_chkN c_LinkHouse_reachAll { frames := 4, cells := 0, slots := 0, locals := 120 } && c_LinkHouse_reachAll.all (am_chk "LinkHouse" prog_1_method_18_code 6 (Option.none : Option Jvm.ClassFile.FieldType) k_LinkHouse_reachAll) && c_LinkHouse_reachAll.all (am_chkL m_LinkHouse_reachAll) && decide (m_LinkHouse_reachAll[0]? = some (0, am_argp 0 [2], [])) && decide (am_argn [2] ≤ 6)) = true := by decide +kernel
set_option maxHeartbeats 150000 in
set_option maxRecDepth 100000 in
theorem h_LinkHouse_reachAll : ∀ X Q j v σ, B_LinkHouse_reachAll X Q j v σ → am_at GR k_LinkHouse_reachAll c_LinkHouse_reachAll m_LinkHouse_reachAll X Q 113 j v σ := fun X Q => am_sel_all (P := fun j v σ => am_at GR k_LinkHouse_reachAll c_LinkHouse_reachAll m_LinkHouse_reachAll X Q 113 j v σ) (⟨(am_v1_of (fun t σ h => am_tk (fun e => by subst e; exact fun h => h) h)), ⟨(am_v2_of (fun t x1 σ h => am_tk (fun e => by subst e; exact fun h => h) h)), ⟨(am_v2_of (fun t x1 σ h => am_tk (fun e => by subst e; exact fun h => h) h)), ⟨(am_v1_of (fun t σ h => am_tk (fun e => by subst e; exact fun h => h) h)), ⟨(am_v2_of (fun t x1 σ h => am_tk (fun e => by subst e; exact fun h => h) h)), ⟨(am_v4_of (fun t x1 x2 x3 σ h => am_tk (fun e => by subst e; exact fun h => h) h)), ⟨(am_v5_of (fun t x1 x2 x3 x4 σ h => am_tk (fun e => by subst e; exact fun h => h) h)), ⟨(am_v4_of (fun t x1 x2 x3 σ h => am_tk (fun e => by subst e; exact fun h => h) h)), trivial⟩⟩⟩⟩⟩⟩⟩⟩)
set_option maxRecDepth 100000 in
theorem S_LinkHouse_reachAll (l : Launch) (w : AW) : am_S l w GR a_LinkHouse_reachAll := am_sound (rt := 3) (cal := k_LinkHouse_reachAll) 41 y_LinkHouse_reachAll prog_1_method_18_code 6 (Option.none : Option Jvm.ClassFile.FieldType) [2] false { frames := 4, cells := 0, slots := 0, locals := 120 } B_LinkHouse_reachAll "LinkHouse" c_LinkHouse_reachAll m_LinkHouse_reachAll 113 ms_LinkHouse_reachAll (by decide +kernel) rfl rfl (am_cal (S_Part_live l w) (am_cal (S_Names_findRow l w) (am_cal (S_LinkHouse_reachName l w) (am_cal (S_Part_isSites l w) (am_cal (S_LinkHouse_reachSite l w) (fun _ h => absurd h List.not_mem_nil)))))) s_LinkHouse_reachAll h_LinkHouse_reachAll
set_option maxRecDepth 100000 in
theorem of_LinkHouse_reachAll {Q : Int → AMem → Prop} {σ : AMem} (h : ∀ X : Nat → List Int → AMem → Prop, (∀ (σ : AMem), B_LinkHouse_reachAll_0 X Q σ → X 0 [1] σ) → (∀ (x1 : Int) (σ : AMem), B_LinkHouse_reachAll_1 X Q x1 σ → X 1 [1, x1] σ) → (∀ (x1 : Int) (σ : AMem), B_LinkHouse_reachAll_2 X Q x1 σ → X 2 [1, x1] σ) → (∀ (σ : AMem), B_LinkHouse_reachAll_3 X Q σ → X 3 [1] σ) → (∀ (x1 : Int) (σ : AMem), B_LinkHouse_reachAll_4 X Q x1 σ → X 4 [1, x1] σ) → (∀ (x1 x2 x3 : Int) (σ : AMem), B_LinkHouse_reachAll_5 X Q x1 x2 x3 σ → X 5 [1, x1, x2, x3] σ) → (∀ (x1 x2 x3 x4 : Int) (σ : AMem), B_LinkHouse_reachAll_6 X Q x1 x2 x3 x4 σ → X 6 [1, x1, x2, x3, x4] σ) → (∀ (x1 x2 x3 : Int) (σ : AMem), B_LinkHouse_reachAll_7 X Q x1 x2 x3 σ → X 7 [1, x1, x2, x3] σ) → X 0 [1] σ) : T_LinkHouse_reachAll [1] σ Q := fun X hX => h X (fun σ h => hX 0 [1] σ h) (fun x1 σ h => hX 1 [1, x1] σ h) (fun x1 σ h => hX 2 [1, x1] σ h) (fun σ h => hX 3 [1] σ h) (fun x1 σ h => hX 4 [1, x1] σ h) (fun x1 x2 x3 σ h => hX 5 [1, x1, x2, x3] σ h) (fun x1 x2 x3 x4 σ h => hX 6 [1, x1, x2, x3, x4] σ h) (fun x1 x2 x3 σ h => hX 7 [1, x1, x2, x3] σ h)
def c_Part_isKept : List aE := [(0, 1, .aload_n 0, 1, 0, 0, []), (1, 0, .getfield 68, 3, 7, 26, [2, 0, 1119]), (4, 0, .iload_n 1, 1, 0, 0, []), (5, 0, .baload, 1, 3, 0, []), (6, 0, .ireturn, 1, 1, 0, [])]
def m_Part_isKept : List aT := [(0, [(0, 2), (1, 0)], [])]
def B_Part_isKept_0 (X : Nat → List Int → AMem → Prop) (Q : Int → AMem → Prop) (x0 x1 : Int) (σ : AMem) : Prop :=
  (if ly_k x0 = 27 then (if ly_k (am_rd GR σ x0 26) = 3 then 0 ≤ x1 ∧ x1 < ly_l (am_rd GR σ x0 26) ∧ (if (σ (am_rd GR σ x0 26) x1) = 0 ∨ (σ (am_rd GR σ x0 26) x1) = 1 then Q (σ (am_rd GR σ x0 26) x1) σ else False) else False) else False)
def B_Part_isKept : (Nat → List Int → AMem → Prop) → (Int → AMem → Prop) → Nat → List Int → AMem → Prop := fun X Q j v σ => am_sel [(am_v2 (fun x0 x1 σ => B_Part_isKept_0 X Q x0 x1 σ))] j v σ
def T_Part_isKept : List Int → AMem → (Int → AMem → Prop) → Prop := am_T B_Part_isKept
abbrev y_Part_isKept : MethodName := ⟨"LinkHouse$Part", "isKept", "(I)Z"⟩
def a_Part_isKept : AC := (42, (y_Part_isKept, prog_6_method_6_code, 2, (Option.some Jvm.ClassFile.FieldType.boolean)), [2, 0], 0, false, { frames := 0, cells := 0, slots := 0, locals := 0 }, T_Part_isKept)
set_option maxRecDepth 100000 in
theorem ms_Part_isKept : am_MSp a_Part_isKept := am_ms_v 3136 8 3134 3135 7 rfl (by decide +kernel)
abbrev k_Part_isKept : List AC := []
set_option maxRecDepth 100000 in
theorem s_Part_isKept : (am_chkR { frames := 0, cells := 0, slots := 0, locals := 0 } k_Part_isKept && am_chkN c_Part_isKept { frames := 0, cells := 0, slots := 0, locals := 0 } && c_Part_isKept.all (am_chk "LinkHouse$Part" prog_6_method_6_code 2 (Option.some Jvm.ClassFile.FieldType.boolean) k_Part_isKept) && c_Part_isKept.all (am_chkL m_Part_isKept) && decide (m_Part_isKept[0]? = some (0, am_argp 0 [2, 0], [])) && decide (am_argn [2, 0] ≤ 2)) = true := by decide +kernel
set_option maxHeartbeats 150000 in
set_option maxRecDepth 100000 in
theorem h_Part_isKept : ∀ X Q j v σ, B_Part_isKept X Q j v σ → am_at GR k_Part_isKept c_Part_isKept m_Part_isKept X Q 20 j v σ := fun X Q => am_sel_all (P := fun j v σ => am_at GR k_Part_isKept c_Part_isKept m_Part_isKept X Q 20 j v σ) (⟨(am_v2_of (fun x0 x1 σ h => h)), trivial⟩)
set_option maxRecDepth 100000 in
theorem S_Part_isKept (l : Launch) (w : AW) : am_S l w GR a_Part_isKept := am_sound (rt := 0) (cal := k_Part_isKept) 42 y_Part_isKept prog_6_method_6_code 2 (Option.some Jvm.ClassFile.FieldType.boolean) [2, 0] false { frames := 0, cells := 0, slots := 0, locals := 0 } B_Part_isKept "LinkHouse$Part" c_Part_isKept m_Part_isKept 20 ms_Part_isKept (by decide +kernel) rfl rfl (fun _ h => absurd h List.not_mem_nil) s_Part_isKept h_Part_isKept
set_option maxRecDepth 100000 in
theorem of_Part_isKept {Q : Int → AMem → Prop} {x0 x1 : Int} {σ : AMem} (h : ∀ X : Nat → List Int → AMem → Prop, (∀ (x0 x1 : Int) (σ : AMem), B_Part_isKept_0 X Q x0 x1 σ → X 0 [x0, x1] σ) → X 0 [x0, x1] σ) : T_Part_isKept [x0, x1] σ Q := fun X hX => h X (fun x0 x1 σ h => hX 0 [x0, x1] σ h)
set_option maxRecDepth 100000 in
theorem iff_Part_isKept {Q : Int → AMem → Prop} {X : Nat → List Int → AMem → Prop} {x0 x1 : Int} {σ : AMem} : T_Part_isKept [x0, x1] σ Q ↔ B_Part_isKept_0 X Q x0 x1 σ := ⟨fun h => h (fun j v σ => B_Part_isKept X Q j v σ) (fun _ _ _ q => q), fun h _ hX => hX 0 _ _ h⟩
def c_Part_isThreads : List aE := [(0, 1, .aload_n 0, 1, 0, 0, []), (1, 0, .getfield 24, 3, 7, 12, [2, 0, 1090]), (4, 0, .iload_n 1, 1, 0, 0, []), (5, 0, .laload, 1, 0, 0, []), (6, 0, .ldc2_w 104, 3, 1024, 0, [3145]), (9, 0, .land, 1, 0, 0, []), (10, 0, .ldc2_w 104, 3, 1024, 0, [3145]), (13, 0, .lcmp, 1, 0, 0, []), (14, 0, .ifCond .ne 7, 3, 0, 0, []), (17, 0, .iconst 1, 1, 0, 0, []), (18, 0, .goto 4, 3, 0, 0, []), (21, 0, .iconst 0, 1, 0, 0, []), (22, 0, .ireturn, 1, 1, 0, [])]
def m_Part_isThreads : List aT := [(0, [(0, 2), (1, 0)], [])]
def B_Part_isThreads_0 (X : Nat → List Int → AMem → Prop) (Q : Int → AMem → Prop) (x0 x1 : Int) (σ : AMem) : Prop :=
  (if ly_k x0 = 27 then (if ly_k (am_rd GR σ x0 12) = 4 then 0 ≤ x1 ∧ x1 < ly_l (am_rd GR σ x0 12) ∧ (if (l_and (σ (am_rd GR σ x0 12) x1) 1024) = 1024 then
  Q 1 σ
  else
  Q 0 σ) else False) else False)
def B_Part_isThreads : (Nat → List Int → AMem → Prop) → (Int → AMem → Prop) → Nat → List Int → AMem → Prop := fun X Q j v σ => am_sel [(am_v2 (fun x0 x1 σ => B_Part_isThreads_0 X Q x0 x1 σ))] j v σ
def T_Part_isThreads : List Int → AMem → (Int → AMem → Prop) → Prop := am_T B_Part_isThreads
abbrev y_Part_isThreads : MethodName := ⟨"LinkHouse$Part", "isThreads", "(I)Z"⟩
def a_Part_isThreads : AC := (43, (y_Part_isThreads, prog_6_method_7_code, 2, (Option.some Jvm.ClassFile.FieldType.boolean)), [2, 0], 0, false, { frames := 0, cells := 0, slots := 0, locals := 0 }, T_Part_isThreads)
set_option maxRecDepth 100000 in
theorem ms_Part_isThreads : am_MSp a_Part_isThreads := am_ms_v 3144 8 3142 3143 7 rfl (by decide +kernel)
abbrev k_Part_isThreads : List AC := []
set_option maxRecDepth 100000 in
theorem s_Part_isThreads : (am_chkR { frames := 0, cells := 0, slots := 0, locals := 0 } k_Part_isThreads && am_chkN c_Part_isThreads { frames := 0, cells := 0, slots := 0, locals := 0 } && c_Part_isThreads.all (am_chk "LinkHouse$Part" prog_6_method_7_code 2 (Option.some Jvm.ClassFile.FieldType.boolean) k_Part_isThreads) && c_Part_isThreads.all (am_chkL m_Part_isThreads) && decide (m_Part_isThreads[0]? = some (0, am_argp 0 [2, 0], [])) && decide (am_argn [2, 0] ≤ 2)) = true := by decide +kernel
set_option maxHeartbeats 150000 in
set_option maxRecDepth 100000 in
theorem h_Part_isThreads : ∀ X Q j v σ, B_Part_isThreads X Q j v σ → am_at GR k_Part_isThreads c_Part_isThreads m_Part_isThreads X Q 20 j v σ := fun X Q => am_sel_all (P := fun j v σ => am_at GR k_Part_isThreads c_Part_isThreads m_Part_isThreads X Q 20 j v σ) (⟨(am_v2_of (fun x0 x1 σ h => h)), trivial⟩)
set_option maxRecDepth 100000 in
theorem S_Part_isThreads (l : Launch) (w : AW) : am_S l w GR a_Part_isThreads := am_sound (rt := 0) (cal := k_Part_isThreads) 43 y_Part_isThreads prog_6_method_7_code 2 (Option.some Jvm.ClassFile.FieldType.boolean) [2, 0] false { frames := 0, cells := 0, slots := 0, locals := 0 } B_Part_isThreads "LinkHouse$Part" c_Part_isThreads m_Part_isThreads 20 ms_Part_isThreads (by decide +kernel) rfl rfl (fun _ h => absurd h List.not_mem_nil) s_Part_isThreads h_Part_isThreads
set_option maxRecDepth 100000 in
theorem of_Part_isThreads {Q : Int → AMem → Prop} {x0 x1 : Int} {σ : AMem} (h : ∀ X : Nat → List Int → AMem → Prop, (∀ (x0 x1 : Int) (σ : AMem), B_Part_isThreads_0 X Q x0 x1 σ → X 0 [x0, x1] σ) → X 0 [x0, x1] σ) : T_Part_isThreads [x0, x1] σ Q := fun X hX => h X (fun x0 x1 σ h => hX 0 [x0, x1] σ h)
set_option maxRecDepth 100000 in
theorem iff_Part_isThreads {Q : Int → AMem → Prop} {X : Nat → List Int → AMem → Prop} {x0 x1 : Int} {σ : AMem} : T_Part_isThreads [x0, x1] σ Q ↔ B_Part_isThreads_0 X Q x0 x1 σ := ⟨fun h => h (fun j v σ => B_Part_isThreads X Q j v σ) (fun _ _ _ q => q), fun h _ hX => hX 0 _ _ h⟩
def c_Part_group : List aE := [(0, 1, .aload_n 0, 1, 0, 0, []), (1, 0, .iload_n 1, 1, 0, 0, []), (2, 0, .invokevirtual 106, 3, 43, 7, [3141]), (5, 0, .ifCond .eq 22, 3, 0, 0, []), (8, 0, .aload_n 0, 1, 0, 0, []), (9, 0, .getfield 9, 3, 7, 8, [2, 0, 1082]), (12, 0, .iload_n 1, 1, 0, 0, []), (13, 0, .iaload, 1, 0, 0, []), (14, 0, .bipush 8, 2, 0, 0, []), (16, 0, .if_icmp .ne 7, 3, 0, 0, []), (19, 0, .iconst 5, 1, 0, 0, []), (20, 0, .goto 61, 3, 0, 0, []), (23, 0, .iconst 4, 1, 0, 0, []), (24, 0, .goto 57, 3, 0, 0, []), (27, 0, .aload_n 0, 1, 0, 0, []), (28, 0, .getfield 9, 3, 7, 8, [2, 0, 1082]), (31, 0, .iload_n 1, 1, 0, 0, []), (32, 0, .iaload, 1, 0, 0, []), (33, 0, .bipush 8, 2, 0, 0, []), (35, 0, .if_icmp .ne 7, 3, 0, 0, []), (38, 0, .iconst 3, 1, 0, 0, []), (39, 0, .goto 42, 3, 0, 0, []), (42, 0, .aload_n 0, 1, 0, 0, []), (43, 0, .getfield 24, 3, 7, 12, [2, 0, 1090]), (46, 0, .iload_n 1, 1, 0, 0, []), (47, 0, .laload, 1, 0, 0, []), (48, 0, .ldc2_w 110, 3, 4, 0, [3053]), (51, 0, .land, 1, 0, 0, []), (52, 0, .ldc2_w 110, 3, 4, 0, [3053]), (55, 0, .lcmp, 1, 0, 0, []), (56, 0, .ifCond .ne 7, 3, 0, 0, []), (59, 0, .iconst 0, 1, 0, 0, []), (60, 0, .goto 21, 3, 0, 0, []), (63, 0, .aload_n 0, 1, 0, 0, []), (64, 0, .getfield 24, 3, 7, 12, [2, 0, 1090]), (67, 0, .iload_n 1, 1, 0, 0, []), (68, 0, .laload, 1, 0, 0, []), (69, 0, .lconst 1, 1, 0, 0, []), (70, 0, .land, 1, 0, 0, []), (71, 0, .lconst 1, 1, 0, 0, []), (72, 0, .lcmp, 1, 0, 0, []), (73, 0, .ifCond .ne 7, 3, 0, 0, []), (76, 0, .iconst 2, 1, 0, 0, []), (77, 0, .goto 4, 3, 0, 0, []), (80, 0, .iconst 1, 1, 0, 0, []), (81, 0, .ireturn, 1, 0, 0, [])]
def m_Part_group : List aT := [(0, [(0, 2), (1, 0)], [])]
def B_Part_group_0 (X : Nat → List Int → AMem → Prop) (Q : Int → AMem → Prop) (x0 x1 : Int) (σ : AMem) : Prop :=
  (if ly_k x0 = 27 then T_Part_isThreads [x0, x1] σ (fun r1 σ2 => (if r1 = 0 then
  (if ly_k x0 = 27 then (if ly_k (am_rd GR σ2 x0 8) = 1 then 0 ≤ x1 ∧ x1 < ly_l (am_rd GR σ2 x0 8) ∧ (if (σ2 (am_rd GR σ2 x0 8) x1) = 8 then
    Q 3 σ2
    else
    (if ly_k x0 = 27 then (if ly_k (am_rd GR σ2 x0 12) = 4 then 0 ≤ x1 ∧ x1 < ly_l (am_rd GR σ2 x0 12) ∧ (if (l_and (σ2 (am_rd GR σ2 x0 12) x1) 4) = 4 then
      Q 0 σ2
      else
      (if ly_k x0 = 27 then (if ly_k (am_rd GR σ2 x0 12) = 4 then 0 ≤ x1 ∧ x1 < ly_l (am_rd GR σ2 x0 12) ∧ (if (l_and (σ2 (am_rd GR σ2 x0 12) x1) 1) = 1 then
        Q 2 σ2
        else
        Q 1 σ2) else False) else False)) else False) else False)) else False) else False)
  else
  (if ly_k x0 = 27 then (if ly_k (am_rd GR σ2 x0 8) = 1 then 0 ≤ x1 ∧ x1 < ly_l (am_rd GR σ2 x0 8) ∧ (if (σ2 (am_rd GR σ2 x0 8) x1) = 8 then
    Q 5 σ2
    else
    Q 4 σ2) else False) else False))) else False)
def B_Part_group : (Nat → List Int → AMem → Prop) → (Int → AMem → Prop) → Nat → List Int → AMem → Prop := fun X Q j v σ => am_sel [(am_v2 (fun x0 x1 σ => B_Part_group_0 X Q x0 x1 σ))] j v σ
def T_Part_group : List Int → AMem → (Int → AMem → Prop) → Prop := am_T B_Part_group
abbrev y_Part_group : MethodName := ⟨"LinkHouse$Part", "group", "(I)I"⟩
def a_Part_group : AC := (44, (y_Part_group, prog_6_method_8_code, 2, (Option.some Jvm.ClassFile.FieldType.int)), [2, 0], 0, false, { frames := 1, cells := 0, slots := 0, locals := 29 }, T_Part_group)
set_option maxRecDepth 100000 in
theorem ms_Part_group : am_MSp a_Part_group := am_ms_v 3140 8 3138 3139 7 rfl (by decide +kernel)
abbrev k_Part_group : List AC := [a_Part_isThreads]
set_option maxRecDepth 100000 in
theorem s_Part_group : (am_chkR { frames := 1, cells := 0, slots := 0, locals := 29 } k_Part_group && am_chkN c_Part_group { frames := 1, cells := 0, slots := 0, locals := 29 } && c_Part_group.all (am_chk "LinkHouse$Part" prog_6_method_8_code 2 (Option.some Jvm.ClassFile.FieldType.int) k_Part_group) && c_Part_group.all (am_chkL m_Part_group) && decide (m_Part_group[0]? = some (0, am_argp 0 [2, 0], [])) && decide (am_argn [2, 0] ≤ 2)) = true := by decide +kernel
set_option maxHeartbeats 150000 in
set_option maxRecDepth 100000 in
theorem h_Part_group : ∀ X Q j v σ, B_Part_group X Q j v σ → am_at GR k_Part_group c_Part_group m_Part_group X Q 51 j v σ := fun X Q => am_sel_all (P := fun j v σ => am_at GR k_Part_group c_Part_group m_Part_group X Q 51 j v σ) (⟨(am_v2_of (fun x0 x1 σ h => h)), trivial⟩)
set_option maxRecDepth 100000 in
theorem S_Part_group (l : Launch) (w : AW) : am_S l w GR a_Part_group := am_sound (rt := 0) (cal := k_Part_group) 44 y_Part_group prog_6_method_8_code 2 (Option.some Jvm.ClassFile.FieldType.int) [2, 0] false { frames := 1, cells := 0, slots := 0, locals := 29 } B_Part_group "LinkHouse$Part" c_Part_group m_Part_group 51 ms_Part_group (by decide +kernel) rfl rfl (am_cal (S_Part_isThreads l w) (fun _ h => absurd h List.not_mem_nil)) s_Part_group h_Part_group
set_option maxRecDepth 100000 in
theorem of_Part_group {Q : Int → AMem → Prop} {x0 x1 : Int} {σ : AMem} (h : ∀ X : Nat → List Int → AMem → Prop, (∀ (x0 x1 : Int) (σ : AMem), B_Part_group_0 X Q x0 x1 σ → X 0 [x0, x1] σ) → X 0 [x0, x1] σ) : T_Part_group [x0, x1] σ Q := fun X hX => h X (fun x0 x1 σ h => hX 0 [x0, x1] σ h)
set_option maxRecDepth 100000 in
theorem iff_Part_group {Q : Int → AMem → Prop} {X : Nat → List Int → AMem → Prop} {x0 x1 : Int} {σ : AMem} : T_Part_group [x0, x1] σ Q ↔ B_Part_group_0 X Q x0 x1 σ := ⟨fun h => h (fun j v σ => B_Part_group X Q j v σ) (fun _ _ _ q => q), fun h _ hX => hX 0 _ _ h⟩
def c_LinkHouse_list : List aE := [(0, 1, .aload_n 0, 1, 0, 0, []), (1, 0, .iconst 0, 1, 0, 0, []), (2, 0, .putfield 461, 3, 0, 22, [0, 0, 1235]), (5, 0, .iconst 0, 1, 0, 0, []), (6, 0, .istore_n 1, 1, 0, 0, []), (7, 2, .iload_n 1, 1, 0, 0, []), (8, 0, .bipush 6, 2, 0, 0, []), (10, 0, .if_icmp .ge 186, 3, 0, 0, []), (13, 0, .iload_n 1, 1, 0, 0, []), (14, 0, .iconst 2, 1, 0, 0, []), (15, 0, .if_icmp .ge 7, 3, 0, 0, []), (18, 0, .iload_n 1, 1, 0, 0, []), (19, 0, .goto 17, 3, 0, 0, []), (22, 0, .iload_n 1, 1, 0, 0, []), (23, 0, .iconst 4, 1, 0, 0, []), (24, 0, .if_icmp .ge 9, 3, 0, 0, []), (27, 0, .iload_n 1, 1, 0, 0, []), (28, 0, .iconst 2, 1, 0, 0, []), (29, 0, .iadd, 1, 0, 0, []), (30, 0, .goto 6, 3, 0, 0, []), (33, 0, .iload_n 1, 1, 0, 0, []), (34, 0, .iconst 2, 1, 0, 0, []), (35, 0, .isub, 1, 0, 0, []), (36, 3, .istore_n 2, 1, 0, 0, []), (37, 0, .iconst 0, 1, 0, 0, []), (38, 0, .istore_n 3, 1, 0, 0, []), (39, 4, .iload_n 3, 1, 0, 0, []), (40, 0, .aload_n 0, 1, 0, 0, []), (41, 0, .getfield 259, 3, 0, 21, [0, 0, 1234]), (44, 0, .if_icmp .ge 146, 3, 0, 0, []), (47, 0, .aload_n 0, 1, 0, 0, []), (48, 0, .getfield 42, 3, 0, 7, [2, 0, 1220]), (51, 0, .iload_n 3, 1, 0, 0, []), (52, 0, .aaload, 1, 5, 0, []), (53, 0, .astore 4, 2, 0, 0, []), (55, 0, .iconst 0, 1, 0, 0, []), (56, 0, .istore 5, 2, 0, 0, []), (58, 5, .iload 5, 2, 0, 0, []), (60, 0, .aload 4, 2, 0, 0, []), (62, 0, .getfield 219, 3, 7, 3, [0, 0, 1073]), (65, 0, .if_icmp .ge 119, 3, 0, 0, []), (68, 0, .aload 4, 2, 0, 0, []), (70, 0, .iload 5, 2, 0, 0, []), (72, 0, .invokevirtual 433, 3, 42, 7, [3133]), (75, 0, .ifCond .eq 103, 3, 0, 0, []), (78, 0, .aload 4, 2, 0, 0, []), (80, 0, .iload 5, 2, 0, 0, []), (82, 0, .invokevirtual 464, 3, 44, 7, [3137]), (85, 0, .iload_n 2, 1, 0, 0, []), (86, 0, .if_icmp .eq 6, 3, 0, 0, []), (89, 0, .goto 89, 3, 0, 0, []), (92, 0, .aload_n 0, 1, 0, 0, []), (93, 0, .getfield 53, 3, 0, 10, [2, 0, 1223]), (96, 0, .aload_n 0, 1, 0, 0, []), (97, 0, .getfield 461, 3, 0, 22, [0, 0, 1235]), (100, 0, .iload_n 3, 1, 0, 0, []), (101, 0, .iastore, 1, 0, 0, []), (102, 0, .aload_n 0, 1, 0, 0, []), (103, 0, .getfield 56, 3, 0, 11, [2, 0, 1224]), (106, 0, .aload_n 0, 1, 0, 0, []), (107, 0, .getfield 461, 3, 0, 22, [0, 0, 1235]), (110, 0, .aload_n 0, 1, 0, 0, []), (111, 0, .getfield 46, 3, 0, 8, [2, 0, 1221]), (114, 0, .iload_n 3, 1, 0, 0, []), (115, 0, .iaload, 1, 0, 0, []), (116, 0, .iastore, 1, 0, 0, []), (117, 0, .aload_n 0, 1, 0, 0, []), (118, 0, .getfield 59, 3, 0, 12, [2, 0, 1225]), (121, 0, .aload_n 0, 1, 0, 0, []), (122, 0, .getfield 461, 3, 0, 22, [0, 0, 1235]), (125, 0, .aload_n 0, 1, 0, 0, []), (126, 0, .getfield 50, 3, 0, 9, [2, 0, 1222]), (129, 0, .iload_n 3, 1, 0, 0, []), (130, 0, .iaload, 1, 0, 0, []), (131, 0, .iastore, 1, 0, 0, []), (132, 0, .aload_n 0, 1, 0, 0, []), (133, 0, .getfield 62, 3, 0, 13, [2, 0, 1226]), (136, 0, .aload_n 0, 1, 0, 0, []), (137, 0, .getfield 461, 3, 0, 22, [0, 0, 1235]), (140, 0, .iload 5, 2, 0, 0, []), (142, 0, .iastore, 1, 0, 0, []), (143, 0, .aload_n 0, 1, 0, 0, []), (144, 0, .getfield 65, 3, 0, 14, [2, 0, 1227]), (147, 0, .aload_n 0, 1, 0, 0, []), (148, 0, .getfield 461, 3, 0, 22, [0, 0, 1235]), (151, 0, .iload_n 2, 1, 0, 0, []), (152, 0, .iastore, 1, 0, 0, []), (153, 0, .aload_n 0, 1, 0, 0, []), (154, 0, .getfield 68, 3, 0, 15, [2, 0, 1228]), (157, 0, .aload_n 0, 1, 0, 0, []), (158, 0, .dup, 1, 0, 0, []), (159, 0, .getfield 461, 3, 0, 22, [0, 0, 1235]), (162, 0, .dup_x1, 1, 0, 0, []), (163, 0, .iconst 1, 1, 0, 0, []), (164, 0, .iadd, 1, 0, 0, []), (165, 0, .putfield 461, 3, 0, 22, [0, 0, 1235]), (168, 0, .aload 4, 2, 0, 0, []), (170, 0, .getfield 390, 3, 7, 13, [2, 0, 1094]), (173, 0, .iload 5, 2, 0, 0, []), (175, 0, .laload, 1, 0, 0, []), (176, 0, .l2i, 1, 0, 0, []), (177, 0, .iastore, 1, 0, 0, []), (178, 6, .iinc 5 1, 3, 0, 0, []), (181, 0, .goto (-123), 3, 0, 0, []), (184, 0, .iinc 3 1, 3, 0, 0, []), (187, 0, .goto (-148), 3, 0, 0, []), (190, 0, .iinc 1 1, 3, 0, 0, []), (193, 0, .goto (-186), 3, 0, 0, []), (196, 0, .return_, 1, 0, 0, [])]
def m_LinkHouse_list : List aT := [(0, [(0, 2)], []), (7, [(0, 2), (1, 0)], []), (36, [(0, 2), (1, 0)], [0]), (39, [(0, 2), (1, 0), (2, 0), (3, 0)], []), (58, [(0, 2), (1, 0), (2, 0), (3, 0), (4, 2), (5, 0)], []), (178, [(0, 2), (1, 0), (2, 0), (3, 0), (4, 2), (5, 0)], [])]
def B_LinkHouse_list_0 (X : Nat → List Int → AMem → Prop) (Q : Int → AMem → Prop) (σ : AMem) : Prop :=
  am_let (am_upd σ 1 22 0) (fun σ1 => X 1 [1, 0] σ1)
def B_LinkHouse_list_1 (X : Nat → List Int → AMem → Prop) (Q : Int → AMem → Prop) (x1 : Int) (σ : AMem) : Prop :=
  (if x1 < 6 then
  (if x1 < 2 then
    X 2 [1, x1, x1] σ
    else
    (if x1 < 4 then
      am_r32 (x1 + 2) ∧ X 2 [1, x1, (x1 + 2)] σ
      else
      am_r32 (x1 - 2) ∧ X 2 [1, x1, (x1 - 2)] σ))
  else
  Q 0 σ)
def B_LinkHouse_list_2 (X : Nat → List Int → AMem → Prop) (Q : Int → AMem → Prop) (x1 s0 : Int) (σ : AMem) : Prop :=
  X 3 [1, x1, s0, 0] σ
def B_LinkHouse_list_3 (X : Nat → List Int → AMem → Prop) (Q : Int → AMem → Prop) (x1 x2 x3 : Int) (σ : AMem) : Prop :=
  (if x3 < (σ 1 21) then
  0 ≤ x3 ∧ x3 < 64 ∧ X 4 [1, x1, x2, x3, (σ 8279 x3), 0] σ
  else
  am_r32 (x1 + 1) ∧ X 1 [1, (x1 + 1)] σ)
def B_LinkHouse_list_4 (X : Nat → List Int → AMem → Prop) (Q : Int → AMem → Prop) (x1 x2 x3 x4 x5 : Int) (σ : AMem) : Prop :=
  (if ly_k x4 = 27 then (if x5 < (am_rd GR σ x4 3) then
  (if ly_k x4 = 27 then T_Part_isKept [x4, x5] σ (fun r1 σ2 => (if r1 = 0 then
    X 5 [1, x1, x2, x3, x4, x5] σ2
    else
    (if ly_k x4 = 27 then T_Part_group [x4, x5] σ2 (fun r3 σ4 => (if r3 = x2 then
      0 ≤ (σ4 1 22) ∧ (σ4 1 22) < 1536 ∧ am_let (am_upd σ4 8282 (σ4 1 22) x3) (fun σ5 => 0 ≤ x3 ∧ x3 < 64 ∧ 0 ≤ (σ5 1 22) ∧ (σ5 1 22) < 1536 ∧ am_let (am_upd σ5 8283 (σ5 1 22) (σ5 8280 x3)) (fun σ6 => 0 ≤ x3 ∧ x3 < 64 ∧ 0 ≤ (σ6 1 22) ∧ (σ6 1 22) < 1536 ∧ am_let (am_upd σ6 8284 (σ6 1 22) (σ6 8281 x3)) (fun σ7 => 0 ≤ (σ7 1 22) ∧ (σ7 1 22) < 1536 ∧ am_let (am_upd σ7 8285 (σ7 1 22) x5) (fun σ8 => 0 ≤ (σ8 1 22) ∧ (σ8 1 22) < 1536 ∧ am_let (am_upd σ8 8286 (σ8 1 22) x2) (fun σ9 => am_r32 ((σ9 1 22) + 1) ∧ am_let (am_upd σ9 1 22 ((σ9 1 22) + 1)) (fun σ10 => (if ly_k x4 = 27 then (if ly_k (am_rd GR σ10 x4 13) = 4 then 0 ≤ x5 ∧ x5 < ly_l (am_rd GR σ10 x4 13) ∧ 0 ≤ (σ9 1 22) ∧ (σ9 1 22) < 1536 ∧ am_let (am_upd σ10 8287 (σ9 1 22) (w32 (σ10 (am_rd GR σ10 x4 13) x5))) (fun σ11 => X 5 [1, x1, x2, x3, x4, x5] σ11) else False) else False)))))))
      else
      X 5 [1, x1, x2, x3, x4, x5] σ4)) else False))) else False)
  else
  am_r32 (x3 + 1) ∧ X 3 [1, x1, x2, (x3 + 1)] σ) else False)
def B_LinkHouse_list_5 (X : Nat → List Int → AMem → Prop) (Q : Int → AMem → Prop) (x1 x2 x3 x4 x5 : Int) (σ : AMem) : Prop :=
  am_r32 (x5 + 1) ∧ X 4 [1, x1, x2, x3, x4, (x5 + 1)] σ
def B_LinkHouse_list : (Nat → List Int → AMem → Prop) → (Int → AMem → Prop) → Nat → List Int → AMem → Prop := fun X Q j v σ => am_sel [(am_v1 (fun t σ => if t = 1 then B_LinkHouse_list_0 X Q σ else False)), (am_v2 (fun t x1 σ => if t = 1 then B_LinkHouse_list_1 X Q x1 σ else False)), (am_v3 (fun t x1 s0 σ => if t = 1 then B_LinkHouse_list_2 X Q x1 s0 σ else False)), (am_v4 (fun t x1 x2 x3 σ => if t = 1 then B_LinkHouse_list_3 X Q x1 x2 x3 σ else False)), (am_v6 (fun t x1 x2 x3 x4 x5 σ => if t = 1 then B_LinkHouse_list_4 X Q x1 x2 x3 x4 x5 σ else False)), (am_v6 (fun t x1 x2 x3 x4 x5 σ => if t = 1 then B_LinkHouse_list_5 X Q x1 x2 x3 x4 x5 σ else False))] j v σ
def T_LinkHouse_list : List Int → AMem → (Int → AMem → Prop) → Prop := am_T B_LinkHouse_list
abbrev y_LinkHouse_list : MethodName := ⟨"LinkHouse", "list", "()V"⟩
def a_LinkHouse_list : AC := (45, (y_LinkHouse_list, prog_1_method_30_code, 6, (Option.none : Option Jvm.ClassFile.FieldType)), [2], 3, false, { frames := 2, cells := 0, slots := 0, locals := 58 }, T_LinkHouse_list)
set_option maxRecDepth 100000 in
theorem ms_LinkHouse_list : am_MSp a_LinkHouse_list := am_ms_v 3132 1 3131 101000 0 rfl (by decide +kernel)
abbrev k_LinkHouse_list : List AC := [a_Part_isKept, a_Part_group]
set_option maxRecDepth 100000 in
theorem s_LinkHouse_list : (am_chkR { frames := 2, cells := 0, slots := 0, locals := 58 } k_LinkHouse_list && am_chkN c_LinkHouse_list { frames := 2, cells := 0, slots := 0, locals := 58 } && c_LinkHouse_list.all (am_chk "LinkHouse" prog_1_method_30_code 6 (Option.none : Option Jvm.ClassFile.FieldType) k_LinkHouse_list) && c_LinkHouse_list.all (am_chkL m_LinkHouse_list) && decide (m_LinkHouse_list[0]? = some (0, am_argp 0 [2], [])) && decide (am_argn [2] ≤ 6)) = true := by decide +kernel
set_option maxHeartbeats 150000 in
set_option maxRecDepth 100000 in
theorem h_LinkHouse_list : ∀ X Q j v σ, B_LinkHouse_list X Q j v σ → am_at GR k_LinkHouse_list c_LinkHouse_list m_LinkHouse_list X Q 114 j v σ := fun X Q => am_sel_all (P := fun j v σ => am_at GR k_LinkHouse_list c_LinkHouse_list m_LinkHouse_list X Q 114 j v σ) (⟨(am_v1_of (fun t σ h => am_tk (fun e => by subst e; exact fun h => h) h)), ⟨(am_v2_of (fun t x1 σ h => am_tk (fun e => by subst e; exact fun h => h) h)), ⟨(am_v3_of (fun t x1 s0 σ h => am_tk (fun e => by subst e; exact fun h => h) h)), ⟨(am_v4_of (fun t x1 x2 x3 σ h => am_tk (fun e => by subst e; exact fun h => h) h)), ⟨(am_v6_of (fun t x1 x2 x3 x4 x5 σ h => am_tk (fun e => by subst e; exact fun h => h) h)), ⟨(am_v6_of (fun t x1 x2 x3 x4 x5 σ h => am_tk (fun e => by subst e; exact fun h => h) h)), trivial⟩⟩⟩⟩⟩⟩)
set_option maxRecDepth 100000 in
theorem S_LinkHouse_list (l : Launch) (w : AW) : am_S l w GR a_LinkHouse_list := am_sound (rt := 3) (cal := k_LinkHouse_list) 45 y_LinkHouse_list prog_1_method_30_code 6 (Option.none : Option Jvm.ClassFile.FieldType) [2] false { frames := 2, cells := 0, slots := 0, locals := 58 } B_LinkHouse_list "LinkHouse" c_LinkHouse_list m_LinkHouse_list 114 ms_LinkHouse_list (by decide +kernel) rfl rfl (am_cal (S_Part_isKept l w) (am_cal (S_Part_group l w) (fun _ h => absurd h List.not_mem_nil))) s_LinkHouse_list h_LinkHouse_list
set_option maxRecDepth 100000 in
theorem of_LinkHouse_list {Q : Int → AMem → Prop} {σ : AMem} (h : ∀ X : Nat → List Int → AMem → Prop, (∀ (σ : AMem), B_LinkHouse_list_0 X Q σ → X 0 [1] σ) → (∀ (x1 : Int) (σ : AMem), B_LinkHouse_list_1 X Q x1 σ → X 1 [1, x1] σ) → (∀ (x1 s0 : Int) (σ : AMem), B_LinkHouse_list_2 X Q x1 s0 σ → X 2 [1, x1, s0] σ) → (∀ (x1 x2 x3 : Int) (σ : AMem), B_LinkHouse_list_3 X Q x1 x2 x3 σ → X 3 [1, x1, x2, x3] σ) → (∀ (x1 x2 x3 x4 x5 : Int) (σ : AMem), B_LinkHouse_list_4 X Q x1 x2 x3 x4 x5 σ → X 4 [1, x1, x2, x3, x4, x5] σ) → (∀ (x1 x2 x3 x4 x5 : Int) (σ : AMem), B_LinkHouse_list_5 X Q x1 x2 x3 x4 x5 σ → X 5 [1, x1, x2, x3, x4, x5] σ) → X 0 [1] σ) : T_LinkHouse_list [1] σ Q := fun X hX => h X (fun σ h => hX 0 [1] σ h) (fun x1 σ h => hX 1 [1, x1] σ h) (fun x1 s0 σ h => hX 2 [1, x1, s0] σ h) (fun x1 x2 x3 σ h => hX 3 [1, x1, x2, x3] σ h) (fun x1 x2 x3 x4 x5 σ h => hX 4 [1, x1, x2, x3, x4, x5] σ h) (fun x1 x2 x3 x4 x5 σ h => hX 5 [1, x1, x2, x3, x4, x5] σ h)
def c_Part_poolAll : List aE := [(0, 1, .iconst 0, 1, 0, 0, []), (1, 0, .istore_n 1, 1, 0, 0, []), (2, 2, .iload_n 1, 1, 0, 0, []), (3, 0, .aload_n 0, 1, 0, 0, []), (4, 0, .getfield 142, 3, 7, 3, [0, 0, 1072]), (7, 0, .if_icmp .ge 126, 3, 0, 0, []), (10, 0, .aload_n 0, 1, 0, 0, []), (11, 0, .getfield 58, 3, 7, 23, [2, 0, 1114]), (14, 0, .iload_n 1, 1, 0, 0, []), (15, 0, .aload_n 0, 1, 0, 0, []), (16, 0, .getfield 68, 3, 7, 26, [2, 0, 1119]), (19, 0, .iload_n 1, 1, 0, 0, []), (20, 0, .baload, 1, 3, 0, []), (21, 0, .ifCond .eq 104, 3, 0, 0, []), (24, 0, .aload_n 0, 1, 0, 0, []), (25, 0, .iload_n 1, 1, 0, 0, []), (26, 0, .invokevirtual 224, 3, 44, 7, [3154]), (29, 0, .iconst 1, 1, 0, 0, []), (30, 0, .if_icmp .ne 95, 3, 0, 0, []), (33, 0, .aload_n 0, 1, 0, 0, []), (34, 0, .getfield 9, 3, 7, 8, [2, 0, 1082]), (37, 0, .iload_n 1, 1, 0, 0, []), (38, 0, .iaload, 1, 0, 0, []), (39, 0, .iconst 1, 1, 0, 0, []), (40, 0, .if_icmp .ne 85, 3, 0, 0, []), (43, 0, .aload_n 0, 1, 0, 0, []), (44, 0, .getfield 24, 3, 7, 12, [2, 0, 1090]), (47, 0, .iload_n 1, 1, 0, 0, []), (48, 0, .laload, 1, 0, 0, []), (49, 0, .ldc2_w 182, 3, 48, 0, [3155]), (52, 0, .land, 1, 0, 0, []), (53, 0, .ldc2_w 182, 3, 48, 0, [3155]), (56, 0, .lcmp, 1, 0, 0, []), (57, 0, .ifCond .ne 68, 3, 0, 0, []), (60, 0, .aload_n 0, 1, 0, 0, []), (61, 0, .getfield 31, 3, 7, 14, [2, 0, 1095]), (64, 0, .iload_n 1, 1, 0, 0, []), (65, 0, .laload, 1, 0, 0, []), (66, 0, .lconst 0, 1, 0, 0, []), (67, 0, .lcmp, 1, 0, 0, []), (68, 0, .ifCond .lt 57, 3, 0, 0, []), (71, 0, .aload_n 0, 1, 0, 0, []), (72, 0, .getfield 31, 3, 7, 14, [2, 0, 1095]), (75, 0, .iload_n 1, 1, 0, 0, []), (76, 0, .laload, 1, 0, 0, []), (77, 0, .ldc2_w 102, 3, 2, 0, [3062]), (80, 0, .lcmp, 1, 0, 0, []), (81, 0, .ifCond .ge 44, 3, 0, 0, []), (84, 0, .aload_n 0, 1, 0, 0, []), (85, 0, .getfield 28, 3, 7, 13, [2, 0, 1092]), (88, 0, .iload_n 1, 1, 0, 0, []), (89, 0, .laload, 1, 0, 0, []), (90, 0, .lconst 0, 1, 0, 0, []), (91, 0, .lcmp, 1, 0, 0, []), (92, 0, .ifCond .le 33, 3, 0, 0, []), (95, 0, .aload_n 0, 1, 0, 0, []), (96, 0, .aload_n 0, 1, 0, 0, []), (97, 0, .getfield 21, 3, 7, 11, [2, 0, 1087]), (100, 0, .iload_n 1, 1, 0, 0, []), (101, 0, .iaload, 1, 0, 0, []), (102, 0, .i2l, 1, 0, 0, []), (103, 0, .aload_n 0, 1, 0, 0, []), (104, 0, .getfield 28, 3, 7, 13, [2, 0, 1092]), (107, 0, .iload_n 1, 1, 0, 0, []), (108, 0, .laload, 1, 0, 0, []), (109, 0, .ladd, 1, 0, 0, []), (110, 0, .lconst 1, 1, 0, 0, []), (111, 0, .lsub, 1, 0, 0, []), (112, 0, .iconst 1, 1, 0, 0, []), (113, 0, .invokevirtual 112, 3, 11, 7, [3000]), (116, 0, .lconst 0, 1, 0, 0, []), (117, 0, .lcmp, 1, 0, 0, []), (118, 0, .ifCond .ne 7, 3, 0, 0, []), (121, 0, .iconst 1, 1, 0, 0, []), (122, 0, .goto 4, 3, 0, 0, []), (125, 3, .iconst 0, 1, 0, 0, []), (126, 4, .bastore, 1, 3, 0, []), (127, 0, .iinc 1 1, 3, 0, 0, []), (130, 0, .goto (-128), 3, 0, 0, []), (133, 0, .iconst 0, 1, 0, 0, []), (134, 0, .istore_n 1, 1, 0, 0, []), (135, 5, .iload_n 1, 1, 0, 0, []), (136, 0, .aload_n 0, 1, 0, 0, []), (137, 0, .getfield 142, 3, 7, 3, [0, 0, 1072]), (140, 0, .if_icmp .ge 29, 3, 0, 0, []), (143, 0, .aload_n 0, 1, 0, 0, []), (144, 0, .iload_n 1, 1, 0, 0, []), (145, 0, .invokevirtual 167, 3, 39, 7, [3156]), (148, 0, .ifCond .eq 15, 3, 0, 0, []), (151, 0, .aload_n 0, 1, 0, 0, []), (152, 0, .getfield 58, 3, 7, 23, [2, 0, 1114]), (155, 0, .aload_n 0, 1, 0, 0, []), (156, 0, .getfield 18, 3, 7, 10, [2, 0, 1085]), (159, 0, .iload_n 1, 1, 0, 0, []), (160, 0, .iaload, 1, 0, 0, []), (161, 0, .iconst 0, 1, 0, 0, []), (162, 0, .bastore, 1, 3, 0, []), (163, 6, .iinc 1 1, 3, 0, 0, []), (166, 0, .goto (-31), 3, 0, 0, []), (169, 0, .return_, 1, 0, 0, [])]
def m_Part_poolAll : List aT := [(0, [(0, 2)], []), (2, [(0, 2), (1, 0)], []), (125, [(0, 2), (1, 0)], [0, 2]), (126, [(0, 2), (1, 0)], [0, 0, 2]), (135, [(0, 2), (1, 0)], []), (163, [(0, 2), (1, 0)], [])]
def B_Part_poolAll_0 (X : Nat → List Int → AMem → Prop) (Q : Int → AMem → Prop) (x0 : Int) (σ : AMem) : Prop :=
  X 1 [x0, 0] σ
def B_Part_poolAll_1 (X : Nat → List Int → AMem → Prop) (Q : Int → AMem → Prop) (x0 x1 : Int) (σ : AMem) : Prop :=
  (if ly_k x0 = 27 then (if x1 < (am_rd GR σ x0 3) then
  (if ly_k x0 = 27 then (if ly_k x0 = 27 then (if ly_k (am_rd GR σ x0 26) = 3 then 0 ≤ x1 ∧ x1 < ly_l (am_rd GR σ x0 26) ∧ (if (σ (am_rd GR σ x0 26) x1) = 0 then
    X 2 [x0, x1, x1, (am_rd GR σ x0 23)] σ
    else
    (if ly_k x0 = 27 then T_Part_group [x0, x1] σ (fun r1 σ2 => (if r1 = 1 then
      (if ly_k x0 = 27 then (if ly_k (am_rd GR σ2 x0 8) = 1 then 0 ≤ x1 ∧ x1 < ly_l (am_rd GR σ2 x0 8) ∧ (if (σ2 (am_rd GR σ2 x0 8) x1) = 1 then
        (if ly_k x0 = 27 then (if ly_k (am_rd GR σ2 x0 12) = 4 then 0 ≤ x1 ∧ x1 < ly_l (am_rd GR σ2 x0 12) ∧ (if (l_and (σ2 (am_rd GR σ2 x0 12) x1) 48) = 48 then
          (if ly_k x0 = 27 then (if ly_k (am_rd GR σ2 x0 14) = 4 then 0 ≤ x1 ∧ x1 < ly_l (am_rd GR σ2 x0 14) ∧ (if (σ2 (am_rd GR σ2 x0 14) x1) < 0 then
            X 2 [x0, x1, x1, (am_rd GR σ x0 23)] σ2
            else
            (if ly_k x0 = 27 then (if ly_k (am_rd GR σ2 x0 14) = 4 then 0 ≤ x1 ∧ x1 < ly_l (am_rd GR σ2 x0 14) ∧ (if (σ2 (am_rd GR σ2 x0 14) x1) < 2 then
              (if ly_k x0 = 27 then (if ly_k (am_rd GR σ2 x0 13) = 4 then 0 ≤ x1 ∧ x1 < ly_l (am_rd GR σ2 x0 13) ∧ (if 0 < (σ2 (am_rd GR σ2 x0 13) x1) then
                (if ly_k x0 = 27 then (if ly_k (am_rd GR σ2 x0 11) = 1 then 0 ≤ x1 ∧ x1 < ly_l (am_rd GR σ2 x0 11) ∧ (if ly_k x0 = 27 then (if ly_k (am_rd GR σ2 x0 13) = 4 then 0 ≤ x1 ∧ x1 < ly_l (am_rd GR σ2 x0 13) ∧ (if ly_k x0 = 27 then T_Part_number [x0, (w64 ((w64 ((σ2 (am_rd GR σ2 x0 11) x1) + (σ2 (am_rd GR σ2 x0 13) x1))) - 1)), 1] σ2 (fun r3 σ4 => (if r3 = 0 then
                  X 3 [x0, x1, 1, x1, (am_rd GR σ x0 23)] σ4
                  else
                  X 2 [x0, x1, x1, (am_rd GR σ x0 23)] σ4)) else False) else False) else False) else False) else False)
                else
                X 2 [x0, x1, x1, (am_rd GR σ x0 23)] σ2) else False) else False)
              else
              X 2 [x0, x1, x1, (am_rd GR σ x0 23)] σ2) else False) else False)) else False) else False)
          else
          X 2 [x0, x1, x1, (am_rd GR σ x0 23)] σ2) else False) else False)
        else
        X 2 [x0, x1, x1, (am_rd GR σ x0 23)] σ2) else False) else False)
      else
      X 2 [x0, x1, x1, (am_rd GR σ x0 23)] σ2)) else False)) else False) else False) else False)
  else
  X 4 [x0, 0] σ) else False)
def B_Part_poolAll_2 (X : Nat → List Int → AMem → Prop) (Q : Int → AMem → Prop) (x0 x1 s0 s1 : Int) (σ : AMem) : Prop :=
  X 3 [x0, x1, 0, s0, s1] σ
def B_Part_poolAll_3 (X : Nat → List Int → AMem → Prop) (Q : Int → AMem → Prop) (x0 x1 s0 s1 s2 : Int) (σ : AMem) : Prop :=
  (if ly_k s2 = 3 then (if s0 = 0 ∨ s0 = 1 then 0 ≤ s1 ∧ s1 < ly_l s2 ∧ am_let (am_upd σ s2 s1 s0) (fun σ1 => am_r32 (x1 + 1) ∧ X 1 [x0, (x1 + 1)] σ1) else False) else False)
def B_Part_poolAll_4 (X : Nat → List Int → AMem → Prop) (Q : Int → AMem → Prop) (x0 x1 : Int) (σ : AMem) : Prop :=
  (if ly_k x0 = 27 then (if x1 < (am_rd GR σ x0 3) then
  (if ly_k x0 = 27 then T_Part_isSites [x0, x1] σ (fun r1 σ2 => (if r1 = 0 then
    X 5 [x0, x1] σ2
    else
    (if ly_k x0 = 27 then (if ly_k x0 = 27 then (if ly_k (am_rd GR σ2 x0 10) = 1 then 0 ≤ x1 ∧ x1 < ly_l (am_rd GR σ2 x0 10) ∧ (if ly_k (am_rd GR σ2 x0 23) = 3 then 0 ≤ (σ2 (am_rd GR σ2 x0 10) x1) ∧ (σ2 (am_rd GR σ2 x0 10) x1) < ly_l (am_rd GR σ2 x0 23) ∧ am_let (am_upd σ2 (am_rd GR σ2 x0 23) (σ2 (am_rd GR σ2 x0 10) x1) 0) (fun σ3 => X 5 [x0, x1] σ3) else False) else False) else False) else False))) else False)
  else
  Q 0 σ) else False)
def B_Part_poolAll_5 (X : Nat → List Int → AMem → Prop) (Q : Int → AMem → Prop) (x0 x1 : Int) (σ : AMem) : Prop :=
  am_r32 (x1 + 1) ∧ X 4 [x0, (x1 + 1)] σ
def B_Part_poolAll : (Nat → List Int → AMem → Prop) → (Int → AMem → Prop) → Nat → List Int → AMem → Prop := fun X Q j v σ => am_sel [(am_v1 (fun x0 σ => B_Part_poolAll_0 X Q x0 σ)), (am_v2 (fun x0 x1 σ => B_Part_poolAll_1 X Q x0 x1 σ)), (am_v4 (fun x0 x1 s0 s1 σ => B_Part_poolAll_2 X Q x0 x1 s0 s1 σ)), (am_v5 (fun x0 x1 s0 s1 s2 σ => B_Part_poolAll_3 X Q x0 x1 s0 s1 s2 σ)), (am_v2 (fun x0 x1 σ => B_Part_poolAll_4 X Q x0 x1 σ)), (am_v2 (fun x0 x1 σ => B_Part_poolAll_5 X Q x0 x1 σ))] j v σ
def T_Part_poolAll : List Int → AMem → (Int → AMem → Prop) → Prop := am_T B_Part_poolAll
abbrev y_Part_poolAll : MethodName := ⟨"LinkHouse$Part", "poolAll", "()V"⟩
def a_Part_poolAll : AC := (46, (y_Part_poolAll, prog_6_method_26_code, 2, (Option.none : Option Jvm.ClassFile.FieldType)), [2], 3, false, { frames := 2, cells := 0, slots := 0, locals := 58 }, T_Part_poolAll)
set_option maxRecDepth 100000 in
theorem ms_Part_poolAll : am_MSp a_Part_poolAll := am_ms_v 3153 8 3151 3152 7 rfl (by decide +kernel)
abbrev k_Part_poolAll : List AC := [a_Part_group, a_Part_number, a_Part_isSites]
set_option maxRecDepth 100000 in
theorem s_Part_poolAll : (am_chkR { frames := 2, cells := 0, slots := 0, locals := 58 } k_Part_poolAll && am_chkN c_Part_poolAll { frames := 2, cells := 0, slots := 0, locals := 58 } && c_Part_poolAll.all (am_chk "LinkHouse$Part" prog_6_method_26_code 2 (Option.none : Option Jvm.ClassFile.FieldType) k_Part_poolAll) && c_Part_poolAll.all (am_chkL m_Part_poolAll) && decide (m_Part_poolAll[0]? = some (0, am_argp 0 [2], [])) && decide (am_argn [2] ≤ 2)) = true := by decide +kernel
set_option maxHeartbeats 150000 in
set_option maxRecDepth 100000 in
theorem h_Part_poolAll : ∀ X Q j v σ, B_Part_poolAll X Q j v σ → am_at GR k_Part_poolAll c_Part_poolAll m_Part_poolAll X Q 105 j v σ := fun X Q => am_sel_all (P := fun j v σ => am_at GR k_Part_poolAll c_Part_poolAll m_Part_poolAll X Q 105 j v σ) (⟨(am_v1_of (fun x0 σ h => h)), ⟨(am_v2_of (fun x0 x1 σ h => h)), ⟨(am_v4_of (fun x0 x1 s0 s1 σ h => h)), ⟨(am_v5_of (fun x0 x1 s0 s1 s2 σ h => h)), ⟨(am_v2_of (fun x0 x1 σ h => h)), ⟨(am_v2_of (fun x0 x1 σ h => h)), trivial⟩⟩⟩⟩⟩⟩)
set_option maxRecDepth 100000 in
theorem S_Part_poolAll (l : Launch) (w : AW) : am_S l w GR a_Part_poolAll := am_sound (rt := 3) (cal := k_Part_poolAll) 46 y_Part_poolAll prog_6_method_26_code 2 (Option.none : Option Jvm.ClassFile.FieldType) [2] false { frames := 2, cells := 0, slots := 0, locals := 58 } B_Part_poolAll "LinkHouse$Part" c_Part_poolAll m_Part_poolAll 105 ms_Part_poolAll (by decide +kernel) rfl rfl (am_cal (S_Part_group l w) (am_cal (S_Part_number l w) (am_cal (S_Part_isSites l w) (fun _ h => absurd h List.not_mem_nil)))) s_Part_poolAll h_Part_poolAll
set_option maxRecDepth 100000 in
theorem of_Part_poolAll {Q : Int → AMem → Prop} {x0 : Int} {σ : AMem} (h : ∀ X : Nat → List Int → AMem → Prop, (∀ (x0 : Int) (σ : AMem), B_Part_poolAll_0 X Q x0 σ → X 0 [x0] σ) → (∀ (x0 x1 : Int) (σ : AMem), B_Part_poolAll_1 X Q x0 x1 σ → X 1 [x0, x1] σ) → (∀ (x0 x1 s0 s1 : Int) (σ : AMem), B_Part_poolAll_2 X Q x0 x1 s0 s1 σ → X 2 [x0, x1, s0, s1] σ) → (∀ (x0 x1 s0 s1 s2 : Int) (σ : AMem), B_Part_poolAll_3 X Q x0 x1 s0 s1 s2 σ → X 3 [x0, x1, s0, s1, s2] σ) → (∀ (x0 x1 : Int) (σ : AMem), B_Part_poolAll_4 X Q x0 x1 σ → X 4 [x0, x1] σ) → (∀ (x0 x1 : Int) (σ : AMem), B_Part_poolAll_5 X Q x0 x1 σ → X 5 [x0, x1] σ) → X 0 [x0] σ) : T_Part_poolAll [x0] σ Q := fun X hX => h X (fun x0 σ h => hX 0 [x0] σ h) (fun x0 x1 σ h => hX 1 [x0, x1] σ h) (fun x0 x1 s0 s1 σ h => hX 2 [x0, x1, s0, s1] σ h) (fun x0 x1 s0 s1 s2 σ h => hX 3 [x0, x1, s0, s1, s2] σ h) (fun x0 x1 σ h => hX 4 [x0, x1] σ h) (fun x0 x1 σ h => hX 5 [x0, x1] σ h)
def c_LinkHouse_isPooled : List aE := [(0, 1, .aload_n 0, 1, 0, 0, []), (1, 0, .getfield 42, 3, 0, 7, [2, 0, 1220]), (4, 0, .aload_n 0, 1, 0, 0, []), (5, 0, .getfield 53, 3, 0, 10, [2, 0, 1223]), (8, 0, .iload_n 1, 1, 0, 0, []), (9, 0, .iaload, 1, 0, 0, []), (10, 0, .aaload, 1, 5, 0, []), (11, 0, .getfield 468, 3, 7, 23, [2, 0, 1115]), (14, 0, .aload_n 0, 1, 0, 0, []), (15, 0, .getfield 62, 3, 0, 13, [2, 0, 1226]), (18, 0, .iload_n 1, 1, 0, 0, []), (19, 0, .iaload, 1, 0, 0, []), (20, 0, .baload, 1, 3, 0, []), (21, 0, .ireturn, 1, 1, 0, [])]
def m_LinkHouse_isPooled : List aT := [(0, [(0, 2), (1, 0)], [])]
def B_LinkHouse_isPooled_0 (X : Nat → List Int → AMem → Prop) (Q : Int → AMem → Prop) (x1 : Int) (σ : AMem) : Prop :=
  0 ≤ x1 ∧ x1 < 1536 ∧ 0 ≤ (σ 8282 x1) ∧ (σ 8282 x1) < 64 ∧ (if ly_k (σ 8279 (σ 8282 x1)) = 27 then 0 ≤ x1 ∧ x1 < 1536 ∧ (if ly_k (am_rd GR σ (σ 8279 (σ 8282 x1)) 23) = 3 then 0 ≤ (σ 8285 x1) ∧ (σ 8285 x1) < ly_l (am_rd GR σ (σ 8279 (σ 8282 x1)) 23) ∧ (if (σ (am_rd GR σ (σ 8279 (σ 8282 x1)) 23) (σ 8285 x1)) = 0 ∨ (σ (am_rd GR σ (σ 8279 (σ 8282 x1)) 23) (σ 8285 x1)) = 1 then Q (σ (am_rd GR σ (σ 8279 (σ 8282 x1)) 23) (σ 8285 x1)) σ else False) else False) else False)
def B_LinkHouse_isPooled : (Nat → List Int → AMem → Prop) → (Int → AMem → Prop) → Nat → List Int → AMem → Prop := fun X Q j v σ => am_sel [(am_v2 (fun t x1 σ => if t = 1 then B_LinkHouse_isPooled_0 X Q x1 σ else False))] j v σ
def T_LinkHouse_isPooled : List Int → AMem → (Int → AMem → Prop) → Prop := am_T B_LinkHouse_isPooled
abbrev y_LinkHouse_isPooled : MethodName := ⟨"LinkHouse", "isPooled", "(I)Z"⟩
def a_LinkHouse_isPooled : AC := (47, (y_LinkHouse_isPooled, prog_1_method_31_code, 2, (Option.some Jvm.ClassFile.FieldType.boolean)), [2, 0], 0, false, { frames := 0, cells := 0, slots := 0, locals := 0 }, T_LinkHouse_isPooled)
set_option maxRecDepth 100000 in
theorem ms_LinkHouse_isPooled : am_MSp a_LinkHouse_isPooled := am_ms_v 3160 1 3159 101002 0 rfl (by decide +kernel)
abbrev k_LinkHouse_isPooled : List AC := []
set_option maxRecDepth 100000 in
theorem s_LinkHouse_isPooled : (am_chkR { frames := 0, cells := 0, slots := 0, locals := 0 } k_LinkHouse_isPooled && am_chkN c_LinkHouse_isPooled { frames := 0, cells := 0, slots := 0, locals := 0 } && c_LinkHouse_isPooled.all (am_chk "LinkHouse" prog_1_method_31_code 2 (Option.some Jvm.ClassFile.FieldType.boolean) k_LinkHouse_isPooled) && c_LinkHouse_isPooled.all (am_chkL m_LinkHouse_isPooled) && decide (m_LinkHouse_isPooled[0]? = some (0, am_argp 0 [2, 0], [])) && decide (am_argn [2, 0] ≤ 2)) = true := by decide +kernel
set_option maxHeartbeats 150000 in
set_option maxRecDepth 100000 in
theorem h_LinkHouse_isPooled : ∀ X Q j v σ, B_LinkHouse_isPooled X Q j v σ → am_at GR k_LinkHouse_isPooled c_LinkHouse_isPooled m_LinkHouse_isPooled X Q 20 j v σ := fun X Q => am_sel_all (P := fun j v σ => am_at GR k_LinkHouse_isPooled c_LinkHouse_isPooled m_LinkHouse_isPooled X Q 20 j v σ) (⟨(am_v2_of (fun t x1 σ h => am_tk (fun e => by subst e; exact fun h => h) h)), trivial⟩)
set_option maxRecDepth 100000 in
theorem S_LinkHouse_isPooled (l : Launch) (w : AW) : am_S l w GR a_LinkHouse_isPooled := am_sound (rt := 0) (cal := k_LinkHouse_isPooled) 47 y_LinkHouse_isPooled prog_1_method_31_code 2 (Option.some Jvm.ClassFile.FieldType.boolean) [2, 0] false { frames := 0, cells := 0, slots := 0, locals := 0 } B_LinkHouse_isPooled "LinkHouse" c_LinkHouse_isPooled m_LinkHouse_isPooled 20 ms_LinkHouse_isPooled (by decide +kernel) rfl rfl (fun _ h => absurd h List.not_mem_nil) s_LinkHouse_isPooled h_LinkHouse_isPooled
set_option maxRecDepth 100000 in
theorem of_LinkHouse_isPooled {Q : Int → AMem → Prop} {x1 : Int} {σ : AMem} (h : ∀ X : Nat → List Int → AMem → Prop, (∀ (x1 : Int) (σ : AMem), B_LinkHouse_isPooled_0 X Q x1 σ → X 0 [1, x1] σ) → X 0 [1, x1] σ) : T_LinkHouse_isPooled [1, x1] σ Q := fun X hX => h X (fun x1 σ h => hX 0 [1, x1] σ h)
set_option maxRecDepth 100000 in
theorem iff_LinkHouse_isPooled {Q : Int → AMem → Prop} {X : Nat → List Int → AMem → Prop} {x1 : Int} {σ : AMem} : T_LinkHouse_isPooled [1, x1] σ Q ↔ B_LinkHouse_isPooled_0 X Q x1 σ := ⟨fun h => h (fun j v σ => B_LinkHouse_isPooled X Q j v σ) (fun _ _ _ q => q), fun h _ hX => hX 0 _ _ h⟩
