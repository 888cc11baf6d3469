/-! methods: printed by gen/all.py -/
def c_Model_findTemplate : List aE := [(0, 1, .iconst 0, 1, 0, 0, []), (1, 0, .istore_n 1, 1, 0, 0, []), (2, 0, .aload_n 0, 1, 0, 0, []), (3, 0, .lconst 0, 1, 0, 0, []), (4, 0, .putfield 650, 3, 8, 84, [1, 0, 7033]), (7, 0, .aload_n 0, 1, 0, 0, []), (8, 0, .lconst 0, 1, 0, 0, []), (9, 0, .putfield 653, 3, 8, 85, [1, 0, 7034]), (12, 0, .aload_n 0, 1, 0, 0, []), (13, 0, .lconst 1, 1, 0, 0, []), (14, 0, .putfield 656, 3, 8, 86, [1, 0, 7035]), (17, 0, .iconst 0, 1, 0, 0, []), (18, 0, .istore_n 2, 1, 0, 0, []), (19, 2, .iload_n 2, 1, 0, 0, []), (20, 0, .aload_n 0, 1, 0, 0, []), (21, 0, .getfield 601, 3, 8, 50, [0, 0, 6239]), (24, 0, .if_icmp .ge 137, 3, 0, 0, []), (27, 0, .aload_n 0, 1, 0, 0, []), (28, 0, .getfield 139, 3, 8, 55, [2, 0, 7004]), (31, 0, .iload_n 2, 1, 0, 0, []), (32, 0, .iaload, 1, 0, 0, []), (33, 0, .iconst 4, 1, 0, 0, []), (34, 0, .if_icmp .ge 6, 3, 0, 0, []), (37, 0, .goto 118, 3, 0, 0, []), (40, 0, .aload_n 0, 1, 0, 0, []), (41, 0, .iload_n 1, 1, 0, 0, []), (42, 0, .ifCond .eq 10, 3, 0, 0, []), (45, 0, .aload_n 0, 1, 0, 0, []), (46, 0, .getfield 659, 3, 8, 83, [1, 0, 7032]), (49, 0, .goto 9, 3, 0, 0, []), (52, 0, .aload_n 0, 1, 0, 0, []), (53, 0, .getfield 145, 3, 8, 57, [2, 0, 7006]), (56, 0, .iload_n 2, 1, 0, 0, []), (57, 0, .laload, 1, 0, 0, []), (58, 3, .putfield 659, 3, 8, 83, [1, 0, 7032]), (61, 0, .iconst 1, 1, 0, 0, []), (62, 0, .istore_n 1, 1, 0, 0, []), (63, 0, .aload_n 0, 1, 0, 0, []), (64, 0, .getfield 145, 3, 8, 57, [2, 0, 7006]), (67, 0, .iload_n 2, 1, 0, 0, []), (68, 0, .laload, 1, 0, 0, []), (69, 0, .aload_n 0, 1, 0, 0, []), (70, 0, .getfield 142, 3, 8, 56, [2, 0, 7005]), (73, 0, .iload_n 2, 1, 0, 0, []), (74, 0, .iaload, 1, 0, 0, []), (75, 0, .i2l, 1, 0, 0, []), (76, 0, .ladd, 1, 0, 0, []), (77, 0, .aload_n 0, 1, 0, 0, []), (78, 0, .getfield 659, 3, 8, 83, [1, 0, 7032]), (81, 0, .lsub, 1, 0, 0, []), (82, 0, .lstore_n 3, 1, 0, 0, []), (83, 0, .aload_n 0, 1, 0, 0, []), (84, 0, .aload_n 0, 1, 0, 0, []), (85, 0, .getfield 139, 3, 8, 55, [2, 0, 7004]), (88, 0, .iload_n 2, 1, 0, 0, []), (89, 0, .iaload, 1, 0, 0, []), (90, 0, .iconst 4, 1, 0, 0, []), (91, 0, .if_icmp .ne 7, 3, 0, 0, []), (94, 0, .lload_n 3, 1, 0, 0, []), (95, 0, .goto 7, 3, 0, 0, []), (98, 0, .aload_n 0, 1, 0, 0, []), (99, 0, .getfield 650, 3, 8, 84, [1, 0, 7033]), (102, 4, .putfield 650, 3, 8, 84, [1, 0, 7033]), (105, 0, .aload_n 0, 1, 0, 0, []), (106, 0, .lload_n 3, 1, 0, 0, []), (107, 0, .putfield 653, 3, 8, 85, [1, 0, 7034]), (110, 0, .aload_n 0, 1, 0, 0, []), (111, 0, .aload_n 0, 1, 0, 0, []), (112, 0, .aload_n 0, 1, 0, 0, []), (113, 0, .getfield 127, 3, 8, 51, [2, 0, 7000]), (116, 0, .iload_n 2, 1, 0, 0, []), (117, 0, .iaload, 1, 0, 0, []), (118, 0, .invokevirtual 503, 3, 236, 8, [9124]), (121, 0, .aload_n 0, 1, 0, 0, []), (122, 0, .getfield 136, 3, 8, 54, [2, 0, 7003]), (125, 0, .iload_n 2, 1, 0, 0, []), (126, 0, .iaload, 1, 0, 0, []), (127, 0, .invokevirtual 353, 3, 193, 8, [8174]), (130, 0, .lstore 5, 2, 0, 0, []), (132, 0, .aload_n 0, 1, 0, 0, []), (133, 0, .lload 5, 2, 0, 0, []), (135, 0, .aload_n 0, 1, 0, 0, []), (136, 0, .getfield 656, 3, 8, 86, [1, 0, 7035]), (139, 0, .lcmp, 1, 0, 0, []), (140, 0, .ifCond .le 8, 3, 0, 0, []), (143, 0, .lload 5, 2, 0, 0, []), (145, 0, .goto 7, 3, 0, 0, []), (148, 0, .aload_n 0, 1, 0, 0, []), (149, 0, .getfield 656, 3, 8, 86, [1, 0, 7035]), (152, 5, .putfield 656, 3, 8, 86, [1, 0, 7035]), (155, 6, .iinc 2 1, 3, 0, 0, []), (158, 0, .goto (-139), 3, 0, 0, []), (161, 0, .aload_n 0, 1, 0, 0, []), (162, 0, .iload_n 1, 1, 0, 0, []), (163, 0, .ifCond .eq 22, 3, 0, 0, []), (166, 0, .aload_n 0, 1, 0, 0, []), (167, 0, .getfield 659, 3, 8, 83, [1, 0, 7032]), (170, 0, .aload_n 0, 1, 0, 0, []), (171, 0, .getfield 653, 3, 8, 85, [1, 0, 7034]), (174, 0, .ladd, 1, 0, 0, []), (175, 0, .aload_n 0, 1, 0, 0, []), (176, 0, .getfield 656, 3, 8, 86, [1, 0, 7035]), (179, 0, .invokestatic 639, 3, 273, 0, [10028]), (182, 0, .goto 9, 3, 0, 0, []), (185, 0, .aload_n 0, 1, 0, 0, []), (186, 0, .getfield 157, 3, 8, 61, [2, 0, 7010]), (189, 0, .iconst 2, 1, 0, 0, []), (190, 0, .laload, 1, 0, 0, []), (191, 0, .putfield 662, 3, 8, 87, [1, 0, 7036]), (194, 0, .return_, 1, 0, 0, [])]
def m_Model_findTemplate : List aT := [(0, [(0, 2)], []), (19, [(0, 2), (1, 0), (2, 0)], []), (58, [(0, 2), (2, 0)], [1, 2]), (102, [(0, 2), (1, 0), (2, 0), (3, 1)], [1, 2]), (152, [(0, 2), (1, 0), (2, 0)], [1, 2]), (155, [(0, 2), (1, 0), (2, 0)], [])]
def B_Model_findTemplate_0 (X : Nat → List Int → AMem → Prop) (Q : Int → AMem → Prop) (σ : AMem) : Prop :=
  am_let (am_upd σ 9790 84 0) (fun σ1 => am_let (am_upd σ1 9790 85 0) (fun σ2 => am_let (am_upd σ2 9790 86 1) (fun σ3 => X 1 [9790, 0, 0] σ3)))
def B_Model_findTemplate_1 (X : Nat → List Int → AMem → Prop) (Q : Int → AMem → Prop) (x1 x2 : Int) (σ : AMem) : Prop :=
  (if x2 < (σ 9790 50) then
  0 ≤ x2 ∧ x2 < 1536 ∧ (if (σ 9831 x2) < 4 then
    X 5 [9790, x1, x2] σ
    else
    (if x1 = 0 then
      0 ≤ x2 ∧ x2 < 1536 ∧ X 2 [9790, x2, (σ 9833 x2), 9790] σ
      else
      X 2 [9790, x2, (σ 9790 83), 9790] σ))
  else
  (if x1 = 0 then
    (0 : Int) ≤ 2 ∧ (2 : Int) < 3 ∧ am_let (am_upd σ 9790 87 (σ 9837 2)) (fun σ1 => Q 0 σ1)
    else
    T_Model_up [(w64 ((σ 9790 83) + (σ 9790 85))), (σ 9790 86)] σ (fun r2 σ3 => am_let (am_upd σ3 9790 87 r2) (fun σ4 => Q 0 σ4))))
def B_Model_findTemplate_2 (X : Nat → List Int → AMem → Prop) (Q : Int → AMem → Prop) (x2 s0 s1 : Int) (σ : AMem) : Prop :=
  (if ly_k s1 = 28 then (if ly_fin s1 83 = 0 then am_let (am_upd σ s1 83 s0) (fun σ1 => 0 ≤ x2 ∧ x2 < 1536 ∧ 0 ≤ x2 ∧ x2 < 1536 ∧ am_let (w64 ((w64 ((σ1 9833 x2) + (σ1 9832 x2))) - (σ1 9790 83))) (fun y2 => 0 ≤ x2 ∧ x2 < 1536 ∧ (if (σ1 9831 x2) = 4 then
  X 3 [9790, 1, x2, y2, y2, 9790] σ1
  else
  X 3 [9790, 1, x2, y2, (σ1 9790 84), 9790] σ1))) else False) else False)
def B_Model_findTemplate_3 (X : Nat → List Int → AMem → Prop) (Q : Int → AMem → Prop) (x1 x2 x3 s0 s1 : Int) (σ : AMem) : Prop :=
  (if ly_k s1 = 28 then (if ly_fin s1 84 = 0 then am_let (am_upd σ s1 84 s0) (fun σ1 => am_let (am_upd σ1 9790 85 x3) (fun σ2 => 0 ≤ x2 ∧ x2 < 1536 ∧ T_Model_object [9790, (σ2 9827 x2)] σ2 (fun r3 σ4 => 0 ≤ x2 ∧ x2 < 1536 ∧ T_Model_align [9790, r3, (σ4 9830 x2)] σ4 (fun r5 σ6 => (if (σ6 9790 86) < r5 then
  X 4 [9790, x1, x2, r5, 9790] σ6
  else
  X 4 [9790, x1, x2, (σ6 9790 86), 9790] σ6))))) else False) else False)
def B_Model_findTemplate_4 (X : Nat → List Int → AMem → Prop) (Q : Int → AMem → Prop) (x1 x2 s0 s1 : Int) (σ : AMem) : Prop :=
  (if ly_k s1 = 28 then (if ly_fin s1 86 = 0 then am_let (am_upd σ s1 86 s0) (fun σ1 => X 5 [9790, x1, x2] σ1) else False) else False)
def B_Model_findTemplate_5 (X : Nat → List Int → AMem → Prop) (Q : Int → AMem → Prop) (x1 x2 : Int) (σ : AMem) : Prop :=
  am_r32 (x2 + 1) ∧ X 1 [9790, x1, (x2 + 1)] σ
def B_Model_findTemplate : (Nat → List Int → AMem → Prop) → (Int → AMem → Prop) → Nat → List Int → AMem → Prop := fun X Q j v σ => am_sel [(am_v1 (fun t σ => if t = 9790 then B_Model_findTemplate_0 X Q σ else False)), (am_v3 (fun t x1 x2 σ => if t = 9790 then B_Model_findTemplate_1 X Q x1 x2 σ else False)), (am_v4 (fun t x2 s0 s1 σ => if t = 9790 then B_Model_findTemplate_2 X Q x2 s0 s1 σ else False)), (am_v6 (fun t x1 x2 x3 s0 s1 σ => if t = 9790 then B_Model_findTemplate_3 X Q x1 x2 x3 s0 s1 σ else False)), (am_v5 (fun t x1 x2 s0 s1 σ => if t = 9790 then B_Model_findTemplate_4 X Q x1 x2 s0 s1 σ else False)), (am_v3 (fun t x1 x2 σ => if t = 9790 then B_Model_findTemplate_5 X Q x1 x2 σ else False))] j v σ
def T_Model_findTemplate : List Int → AMem → (Int → AMem → Prop) → Prop := am_T B_Model_findTemplate
abbrev y_Model_findTemplate : MethodName := ⟨"LinkHouseModel", "findTemplate", "()V"⟩
def a_Model_findTemplate : AC := (279, (y_Model_findTemplate, prog_10_method_100_code, 7, (Option.none : Option Jvm.ClassFile.FieldType)), [2], 3, false, { frames := 3, cells := 0, slots := 0, locals := 93 }, T_Model_findTemplate)
set_option maxRecDepth 100000 in
theorem ms_Model_findTemplate : am_MSp a_Model_findTemplate := am_ms_v 10052 9 10051 111002 8 rfl (by decide +kernel)
abbrev k_Model_findTemplate : List AC := [a_Model_object, a_Model_align, a_Model_up]
set_option maxRecDepth 100000 in
theorem s_Model_findTemplate : (am_chkR { frames := 3, cells := 0, slots := 0, locals := 93 } k_Model_findTemplate && am_chkN c_Model_findTemplate { frames := 3, cells := 0, slots := 0, locals := 93 } && c_Model_findTemplate.all (am_chk "LinkHouseModel" prog_10_method_100_code 7 (Option.none : Option Jvm.ClassFile.FieldType) k_Model_findTemplate) && c_Model_findTemplate.all (am_chkL m_Model_findTemplate) && decide (m_Model_findTemplate[0]? = some (0, am_argp 0 [2], [])) && decide (am_argn [2] ≤ 7)) = true := by decide +kernel
set_option maxHeartbeats 150000 in
set_option maxRecDepth 100000 in
theorem h_Model_findTemplate : ∀ X Q j v σ, B_Model_findTemplate X Q j v σ → am_at GR k_Model_findTemplate c_Model_findTemplate m_Model_findTemplate X Q 115 j v σ := fun X Q => am_sel_all (P := fun j v σ => am_at GR k_Model_findTemplate c_Model_findTemplate m_Model_findTemplate X Q 115 j v σ) (⟨(am_v1_of (fun t σ h => am_tk (fun e => by subst e; exact fun h => h) h)), ⟨(am_v3_of (fun t x1 x2 σ h => am_tk (fun e => by subst e; exact fun h => h) h)), ⟨(am_v4_of (fun t x2 s0 s1 σ h => am_tk (fun e => by subst e; exact fun h => h) h)), ⟨(am_v6_of (fun t x1 x2 x3 s0 s1 σ h => am_tk (fun e => by subst e; exact fun h => h) h)), ⟨(am_v5_of (fun t x1 x2 s0 s1 σ h => am_tk (fun e => by subst e; exact fun h => h) h)), ⟨(am_v3_of (fun t x1 x2 σ h => am_tk (fun e => by subst e; exact fun h => h) h)), trivial⟩⟩⟩⟩⟩⟩)
set_option maxRecDepth 100000 in
theorem S_Model_findTemplate (l : Launch) (w : AW) : am_S l w GR a_Model_findTemplate := am_sound (rt := 3) (cal := k_Model_findTemplate) 279 y_Model_findTemplate prog_10_method_100_code 7 (Option.none : Option Jvm.ClassFile.FieldType) [2] false { frames := 3, cells := 0, slots := 0, locals := 93 } B_Model_findTemplate "LinkHouseModel" c_Model_findTemplate m_Model_findTemplate 115 ms_Model_findTemplate (by decide +kernel) rfl rfl (am_cal (S_Model_object l w) (am_cal (S_Model_align l w) (am_cal (S_Model_up l w) (fun _ h => absurd h List.not_mem_nil)))) s_Model_findTemplate h_Model_findTemplate
set_option maxRecDepth 100000 in
theorem of_Model_findTemplate {Q : Int → AMem → Prop} {σ : AMem} (h : ∀ X : Nat → List Int → AMem → Prop, (∀ (σ : AMem), B_Model_findTemplate_0 X Q σ → X 0 [9790] σ) → (∀ (x1 x2 : Int) (σ : AMem), B_Model_findTemplate_1 X Q x1 x2 σ → X 1 [9790, x1, x2] σ) → (∀ (x2 s0 s1 : Int) (σ : AMem), B_Model_findTemplate_2 X Q x2 s0 s1 σ → X 2 [9790, x2, s0, s1] σ) → (∀ (x1 x2 x3 s0 s1 : Int) (σ : AMem), B_Model_findTemplate_3 X Q x1 x2 x3 s0 s1 σ → X 3 [9790, x1, x2, x3, s0, s1] σ) → (∀ (x1 x2 s0 s1 : Int) (σ : AMem), B_Model_findTemplate_4 X Q x1 x2 s0 s1 σ → X 4 [9790, x1, x2, s0, s1] σ) → (∀ (x1 x2 : Int) (σ : AMem), B_Model_findTemplate_5 X Q x1 x2 σ → X 5 [9790, x1, x2] σ) → X 0 [9790] σ) : T_Model_findTemplate [9790] σ Q := fun X hX => h X (fun σ h => hX 0 [9790] σ h) (fun x1 x2 σ h => hX 1 [9790, x1, x2] σ h) (fun x2 s0 s1 σ h => hX 2 [9790, x2, s0, s1] σ h) (fun x1 x2 x3 s0 s1 σ h => hX 3 [9790, x1, x2, x3, s0, s1] σ h) (fun x1 x2 s0 s1 σ h => hX 4 [9790, x1, x2, s0, s1] σ h) (fun x1 x2 σ h => hX 5 [9790, x1, x2] σ h)
def c_Model_ownAddress : List aE := [(0, 1, .iload_n 1, 1, 0, 0, []), (1, 0, .iconst 1, 1, 0, 0, []), (2, 0, .if_icmp .ne 10, 3, 0, 0, []), (5, 0, .aload_n 0, 1, 0, 0, []), (6, 0, .getfield 674, 3, 8, 80, [1, 0, 7029]), (9, 0, .goto 49, 3, 0, 0, []), (12, 0, .iload_n 1, 1, 0, 0, []), (13, 0, .iconst 2, 1, 0, 0, []), (14, 0, .if_icmp .ne 19, 3, 0, 0, []), (17, 0, .aload_n 0, 1, 0, 0, []), (18, 0, .getfield 157, 3, 8, 61, [2, 0, 7010]), (21, 0, .iconst 2, 1, 0, 0, []), (22, 0, .laload, 1, 0, 0, []), (23, 0, .aload_n 0, 1, 0, 0, []), (24, 0, .getfield 160, 3, 8, 62, [2, 0, 7011]), (27, 0, .iconst 2, 1, 0, 0, []), (28, 0, .laload, 1, 0, 0, []), (29, 0, .ladd, 1, 0, 0, []), (30, 0, .goto 28, 3, 0, 0, []), (33, 0, .iload_n 1, 1, 0, 0, []), (34, 0, .iconst 3, 1, 0, 0, []), (35, 0, .if_icmp .ne 10, 3, 0, 0, []), (38, 0, .aload_n 0, 1, 0, 0, []), (39, 0, .getfield 643, 3, 8, 81, [1, 0, 7030]), (42, 0, .goto 16, 3, 0, 0, []), (45, 0, .aload_n 0, 1, 0, 0, []), (46, 0, .getfield 157, 3, 8, 61, [2, 0, 7010]), (49, 0, .iconst 2, 1, 0, 0, []), (50, 0, .laload, 1, 0, 0, []), (51, 0, .aload_n 0, 1, 0, 0, []), (52, 0, .getfield 163, 3, 8, 63, [2, 0, 7012]), (55, 0, .iconst 2, 1, 0, 0, []), (56, 0, .laload, 1, 0, 0, []), (57, 0, .ladd, 1, 0, 0, []), (58, 0, .lreturn, 1, 0, 0, [])]
def m_Model_ownAddress : List aT := [(0, [(0, 2), (1, 0)], [])]
def B_Model_ownAddress_0 (X : Nat → List Int → AMem → Prop) (Q : Int → AMem → Prop) (x1 : Int) (σ : AMem) : Prop :=
  (if x1 = 1 then
  Q (σ 9790 80) σ
  else
  (if x1 = 2 then
    (0 : Int) ≤ 2 ∧ (2 : Int) < 3 ∧ (0 : Int) ≤ 2 ∧ (2 : Int) < 3 ∧ Q (w64 ((σ 9837 2) + (σ 9838 2))) σ
    else
    (if x1 = 3 then
      Q (σ 9790 81) σ
      else
      (0 : Int) ≤ 2 ∧ (2 : Int) < 3 ∧ (0 : Int) ≤ 2 ∧ (2 : Int) < 3 ∧ Q (w64 ((σ 9837 2) + (σ 9839 2))) σ)))
def B_Model_ownAddress : (Nat → List Int → AMem → Prop) → (Int → AMem → Prop) → Nat → List Int → AMem → Prop := fun X Q j v σ => am_sel [(am_v2 (fun t x1 σ => if t = 9790 then B_Model_ownAddress_0 X Q x1 σ else False))] j v σ
def T_Model_ownAddress : List Int → AMem → (Int → AMem → Prop) → Prop := am_T B_Model_ownAddress
abbrev y_Model_ownAddress : MethodName := ⟨"LinkHouseModel", "ownAddress", "(I)J"⟩
def a_Model_ownAddress : AC := (280, (y_Model_ownAddress, prog_10_method_103_code, 2, (Option.some Jvm.ClassFile.FieldType.long)), [2, 0], 1, false, { frames := 0, cells := 0, slots := 0, locals := 0 }, T_Model_ownAddress)
set_option maxRecDepth 100000 in
theorem ms_Model_ownAddress : am_MSp a_Model_ownAddress := am_ms_v 10056 9 10055 111003 8 rfl (by decide +kernel)
abbrev k_Model_ownAddress : List AC := []
set_option maxRecDepth 100000 in
theorem s_Model_ownAddress : (am_chkR { frames := 0, cells := 0, slots := 0, locals := 0 } k_Model_ownAddress && am_chkN c_Model_ownAddress { frames := 0, cells := 0, slots := 0, locals := 0 } && c_Model_ownAddress.all (am_chk "LinkHouseModel" prog_10_method_103_code 2 (Option.some Jvm.ClassFile.FieldType.long) k_Model_ownAddress) && c_Model_ownAddress.all (am_chkL m_Model_ownAddress) && decide (m_Model_ownAddress[0]? = some (0, am_argp 0 [2, 0], [])) && decide (am_argn [2, 0] ≤ 2)) = true := by decide +kernel
set_option maxHeartbeats 150000 in
set_option maxRecDepth 100000 in
theorem h_Model_ownAddress : ∀ X Q j v σ, B_Model_ownAddress X Q j v σ → am_at GR k_Model_ownAddress c_Model_ownAddress m_Model_ownAddress X Q 40 j v σ := fun X Q => am_sel_all (P := fun j v σ => am_at GR k_Model_ownAddress c_Model_ownAddress m_Model_ownAddress X Q 40 j v σ) (⟨(am_v2_of (fun t x1 σ h => am_tk (fun e => by subst e; exact fun h => h) h)), trivial⟩)
set_option maxRecDepth 100000 in
theorem S_Model_ownAddress (l : Launch) (w : AW) : am_S l w GR a_Model_ownAddress := am_sound (rt := 1) (cal := k_Model_ownAddress) 280 y_Model_ownAddress prog_10_method_103_code 2 (Option.some Jvm.ClassFile.FieldType.long) [2, 0] false { frames := 0, cells := 0, slots := 0, locals := 0 } B_Model_ownAddress "LinkHouseModel" c_Model_ownAddress m_Model_ownAddress 40 ms_Model_ownAddress (by decide +kernel) rfl rfl (fun _ h => absurd h List.not_mem_nil) s_Model_ownAddress h_Model_ownAddress
set_option maxRecDepth 100000 in
theorem of_Model_ownAddress {Q : Int → AMem → Prop} {x1 : Int} {σ : AMem} (h : ∀ X : Nat → List Int → AMem → Prop, (∀ (x1 : Int) (σ : AMem), B_Model_ownAddress_0 X Q x1 σ → X 0 [9790, x1] σ) → X 0 [9790, x1] σ) : T_Model_ownAddress [9790, x1] σ Q := fun X hX => h X (fun x1 σ h => hX 0 [9790, x1] σ h)
set_option maxRecDepth 100000 in
theorem iff_Model_ownAddress {Q : Int → AMem → Prop} {X : Nat → List Int → AMem → Prop} {x1 : Int} {σ : AMem} : T_Model_ownAddress [9790, x1] σ Q ↔ B_Model_ownAddress_0 X Q x1 σ := ⟨fun h => h (fun j v σ => B_Model_ownAddress X Q j v σ) (fun _ _ _ q => q), fun h _ hX => hX 0 _ _ h⟩
def c_Model_own : List aE := [(0, 1, .aload_n 0, 1, 0, 0, []), (1, 0, .iload_n 1, 1, 0, 0, []), (2, 0, .invokevirtual 503, 3, 236, 8, [9124]), (5, 0, .istore_n 3, 1, 0, 0, []), (6, 0, .aload_n 0, 1, 0, 0, []), (7, 0, .iload_n 1, 1, 0, 0, []), (8, 0, .iload_n 2, 1, 0, 0, []), (9, 0, .invokevirtual 506, 3, 240, 8, [9144]), (12, 0, .istore 4, 2, 0, 0, []), (14, 0, .iload 4, 2, 0, 0, []), (16, 0, .ifCond .ne 5, 3, 0, 0, []), (19, 0, .lconst 0, 1, 0, 0, []), (20, 0, .lreturn, 1, 0, 0, []), (21, 0, .iload 4, 2, 0, 0, []), (23, 0, .ldc_w 378, 3, 65521, 0, [8217]), (26, 0, .if_icmp .eq 13, 3, 0, 0, []), (29, 0, .aload_n 0, 1, 0, 0, []), (30, 0, .iload_n 3, 1, 0, 0, []), (31, 0, .iload 4, 2, 0, 0, []), (33, 0, .invokevirtual 347, 3, 192, 8, [8164]), (36, 0, .ifCond .ne 10, 3, 0, 0, []), (39, 2, .aload_n 0, 1, 0, 0, []), (40, 0, .iload_n 3, 1, 0, 0, []), (41, 0, .iload_n 2, 1, 0, 0, []), (42, 0, .invokevirtual 383, 3, 203, 8, [8223]), (45, 0, .lreturn, 1, 0, 0, []), (46, 0, .aload_n 0, 1, 0, 0, []), (47, 0, .iload_n 1, 1, 0, 0, []), (48, 0, .iload 4, 2, 0, 0, []), (50, 0, .invokevirtual 591, 3, 255, 8, [9188]), (53, 0, .ifCond .ne 5, 3, 0, 0, []), (56, 0, .lconst 0, 1, 0, 0, []), (57, 0, .lreturn, 1, 0, 0, []), (58, 0, .aload_n 0, 1, 0, 0, []), (59, 0, .iload_n 3, 1, 0, 0, []), (60, 0, .iload 4, 2, 0, 0, []), (62, 0, .invokevirtual 617, 3, 258, 8, [9201]), (65, 0, .ifCond .eq 17, 3, 0, 0, []), (68, 0, .aload_n 0, 1, 0, 0, []), (69, 0, .iload_n 3, 1, 0, 0, []), (70, 0, .iload 4, 2, 0, 0, []), (72, 0, .aload_n 0, 1, 0, 0, []), (73, 0, .iload_n 3, 1, 0, 0, []), (74, 0, .iload_n 2, 1, 0, 0, []), (75, 0, .invokevirtual 383, 3, 203, 8, [8223]), (78, 0, .invokevirtual 646, 3, 275, 8, [10039]), (81, 0, .lreturn, 1, 0, 0, []), (82, 0, .aload_n 0, 1, 0, 0, []), (83, 0, .getfield 148, 3, 8, 58, [2, 0, 7007]), (86, 0, .bipush 24, 2, 0, 0, []), (88, 0, .iload_n 1, 1, 0, 0, []), (89, 0, .imul, 1, 0, 0, []), (90, 0, .iload 4, 2, 0, 0, []), (92, 0, .iadd, 1, 0, 0, []), (93, 0, .laload, 1, 0, 0, []), (94, 0, .aload_n 0, 1, 0, 0, []), (95, 0, .iload_n 3, 1, 0, 0, []), (96, 0, .iload_n 2, 1, 0, 0, []), (97, 0, .invokevirtual 383, 3, 203, 8, [8223]), (100, 0, .ladd, 1, 0, 0, []), (101, 0, .lreturn, 1, 0, 0, [])]
def m_Model_own : List aT := [(0, [(0, 2), (1, 0), (2, 0)], []), (39, [(0, 2), (2, 0), (3, 0)], [])]
def B_Model_own_0 (X : Nat → List Int → AMem → Prop) (Q : Int → AMem → Prop) (x1 x2 : Int) (σ : AMem) : Prop :=
  T_Model_object [9790, x1] σ (fun r1 σ2 => T_Model_whereNow [9790, x1, x2] σ2 (fun r3 σ4 => (if r3 = 0 then
  Q 0 σ4
  else
  (if r3 = 65521 then
    X 1 [9790, x2, r1] σ4
    else
    T_Model_isKept [9790, r1, r3] σ4 (fun r5 σ6 => (if r5 = 0 then
      X 1 [9790, x2, r1] σ6
      else
      T_Model_stays [9790, x1, r3] σ6 (fun r7 σ8 => (if r7 = 0 then
        Q 0 σ8
        else
        T_Model_isStrings [9790, r1, r3] σ8 (fun r9 σ10 => (if r9 = 0 then
          am_r32 (24 * x1) ∧ am_r32 ((24 * x1) + r3) ∧ 0 ≤ ((24 * x1) + r3) ∧ ((24 * x1) + r3) < 1536 ∧ T_Model_value [9790, r1, x2] σ10 (fun r11 σ12 => Q (w64 ((σ10 9834 ((24 * x1) + r3)) + r11)) σ12)
          else
          T_Model_value [9790, r1, x2] σ10 (fun r13 σ14 => T_Model_byteAddress [9790, r1, r3, r13] σ14 (fun r15 σ16 => Q r15 σ16))))))))))))
def B_Model_own_1 (X : Nat → List Int → AMem → Prop) (Q : Int → AMem → Prop) (x2 x3 : Int) (σ : AMem) : Prop :=
  T_Model_value [9790, x3, x2] σ (fun r1 σ2 => Q r1 σ2)
def B_Model_own : (Nat → List Int → AMem → Prop) → (Int → AMem → Prop) → Nat → List Int → AMem → Prop := fun X Q j v σ => am_sel [(am_v3 (fun t x1 x2 σ => if t = 9790 then B_Model_own_0 X Q x1 x2 σ else False)), (am_v3 (fun t x2 x3 σ => if t = 9790 then B_Model_own_1 X Q x2 x3 σ else False))] j v σ
def T_Model_own : List Int → AMem → (Int → AMem → Prop) → Prop := am_T B_Model_own
abbrev y_Model_own : MethodName := ⟨"LinkHouseModel", "own", "(II)J"⟩
def a_Model_own : AC := (281, (y_Model_own, prog_10_method_104_code, 5, (Option.some Jvm.ClassFile.FieldType.long)), [2, 0, 0], 1, false, { frames := 7, cells := 0, slots := 0, locals := 214 }, T_Model_own)
set_option maxRecDepth 100000 in
theorem ms_Model_own : am_MSp a_Model_own := am_ms_v 10060 9 10059 111004 8 rfl (by decide +kernel)
abbrev k_Model_own : List AC := [a_Model_object, a_Model_whereNow, a_Model_isKept, a_Model_value, a_Model_stays, a_Model_isStrings, a_Model_byteAddress]
set_option maxRecDepth 100000 in
theorem s_Model_own : (am_chkR { frames := 7, cells := 0, slots := 0, locals := 214 } k_Model_own && am_chkN c_Model_own { frames := 7, cells := 0, slots := 0, locals := 214 } && c_Model_own.all (am_chk "LinkHouseModel" prog_10_method_104_code 5 (Option.some Jvm.ClassFile.FieldType.long) k_Model_own) && c_Model_own.all (am_chkL m_Model_own) && decide (m_Model_own[0]? = some (0, am_argp 0 [2, 0, 0], [])) && decide (am_argn [2, 0, 0] ≤ 5)) = true := by decide +kernel
set_option maxHeartbeats 150000 in
set_option maxRecDepth 100000 in
theorem h_Model_own : ∀ X Q j v σ, B_Model_own X Q j v σ → am_at GR k_Model_own c_Model_own m_Model_own X Q 66 j v σ := fun X Q => am_sel_all (P := fun j v σ => am_at GR k_Model_own c_Model_own m_Model_own X Q 66 j v σ) (⟨(am_v3_of (fun t x1 x2 σ h => am_tk (fun e => by subst e; exact fun h => h) h)), ⟨(am_v3_of (fun t x2 x3 σ h => am_tk (fun e => by subst e; exact fun h => h) h)), trivial⟩⟩)
set_option maxRecDepth 100000 in
theorem S_Model_own (l : Launch) (w : AW) : am_S l w GR a_Model_own := am_sound (rt := 1) (cal := k_Model_own) 281 y_Model_own prog_10_method_104_code 5 (Option.some Jvm.ClassFile.FieldType.long) [2, 0, 0] false { frames := 7, cells := 0, slots := 0, locals := 214 } B_Model_own "LinkHouseModel" c_Model_own m_Model_own 66 ms_Model_own (by decide +kernel) rfl rfl (am_cal (S_Model_object l w) (am_cal (S_Model_whereNow l w) (am_cal (S_Model_isKept l w) (am_cal (S_Model_value l w) (am_cal (S_Model_stays l w) (am_cal (S_Model_isStrings l w) (am_cal (S_Model_byteAddress l w) (fun _ h => absurd h List.not_mem_nil)))))))) s_Model_own h_Model_own
set_option maxRecDepth 100000 in
theorem of_Model_own {Q : Int → AMem → Prop} {x1 x2 : Int} {σ : AMem} (h : ∀ X : Nat → List Int → AMem → Prop, (∀ (x1 x2 : Int) (σ : AMem), B_Model_own_0 X Q x1 x2 σ → X 0 [9790, x1, x2] σ) → (∀ (x2 x3 : Int) (σ : AMem), B_Model_own_1 X Q x2 x3 σ → X 1 [9790, x2, x3] σ) → X 0 [9790, x1, x2] σ) : T_Model_own [9790, x1, x2] σ Q := fun X hX => h X (fun x1 x2 σ h => hX 0 [9790, x1, x2] σ h) (fun x2 x3 σ h => hX 1 [9790, x2, x3] σ h)
def c_Model_layout : List aE := [(0, 1, .iconst 0, 1, 0, 0, []), (1, 0, .istore_n 1, 1, 0, 0, []), (2, 2, .iload_n 1, 1, 0, 0, []), (3, 0, .aload_n 0, 1, 0, 0, []), (4, 0, .getfield 473, 3, 8, 20, [0, 0, 6209]), (7, 0, .if_icmp .ge 16, 3, 0, 0, []), (10, 0, .aload_n 0, 1, 0, 0, []), (11, 0, .getfield 78, 3, 8, 29, [2, 0, 6218]), (14, 0, .iload_n 1, 1, 0, 0, []), (15, 0, .lconst 0, 1, 0, 0, []), (16, 0, .lastore, 1, 0, 0, []), (17, 0, .iinc 1 1, 3, 0, 0, []), (20, 0, .goto (-18), 3, 0, 0, []), (23, 0, .aload_n 0, 1, 0, 0, []), (24, 0, .invokevirtual 690, 3, 271, 8, [10006]), (27, 0, .aload_n 0, 1, 0, 0, []), (28, 0, .aload_n 0, 1, 0, 0, []), (29, 0, .invokevirtual 693, 3, 272, 8, [10017]), (32, 0, .putfield 696, 3, 8, 82, [0, 1, 7031]), (35, 0, .aload_n 0, 1, 0, 0, []), (36, 0, .ldc2_w 341, 3, 64, 0, [8135]), (39, 0, .ldc2_w 699, 3, 56, 0, [10021]), (42, 0, .aload_n 0, 1, 0, 0, []), (43, 0, .getfield 630, 3, 8, 15, [0, 0, 6204]), (46, 0, .i2l, 1, 0, 0, []), (47, 0, .lmul, 1, 0, 0, []), (48, 0, .ladd, 1, 0, 0, []), (49, 0, .aload_n 0, 1, 0, 0, []), (50, 0, .getfield 696, 3, 8, 82, [0, 1, 7031]), (53, 0, .ifCond .eq 9, 3, 0, 0, []), (56, 0, .ldc2_w 699, 3, 56, 0, [10021]), (59, 0, .goto 4, 3, 0, 0, []), (62, 0, .lconst 0, 1, 0, 0, []), (63, 3, .ladd, 1, 0, 0, []), (64, 0, .putfield 665, 3, 8, 64, [1, 0, 7013]), (67, 0, .ldc2_w 701, 3, 4194304, 0, [10022]), (70, 0, .lstore_n 1, 1, 0, 0, []), (71, 0, .iconst 0, 1, 0, 0, []), (72, 0, .istore_n 3, 1, 0, 0, []), (73, 4, .iload_n 3, 1, 0, 0, []), (74, 0, .iconst 3, 1, 0, 0, []), (75, 0, .if_icmp .ge 76, 3, 0, 0, []), (78, 0, .aload_n 0, 1, 0, 0, []), (79, 0, .iload_n 3, 1, 0, 0, []), (80, 0, .lload_n 1, 1, 0, 0, []), (81, 0, .invokevirtual 703, 3, 278, 8, [10023]), (84, 0, .aload_n 0, 1, 0, 0, []), (85, 0, .getfield 151, 3, 8, 59, [2, 0, 7008]), (88, 0, .iload_n 3, 1, 0, 0, []), (89, 0, .baload, 1, 3, 0, []), (90, 0, .ifCond .ne 6, 3, 0, 0, []), (93, 0, .goto 52, 3, 0, 0, []), (96, 0, .aload_n 0, 1, 0, 0, []), (97, 0, .getfield 157, 3, 8, 61, [2, 0, 7010]), (100, 0, .iload_n 3, 1, 0, 0, []), (101, 0, .laload, 1, 0, 0, []), (102, 0, .aload_n 0, 1, 0, 0, []), (103, 0, .getfield 163, 3, 8, 63, [2, 0, 7012]), (106, 0, .iload_n 3, 1, 0, 0, []), (107, 0, .laload, 1, 0, 0, []), (108, 0, .ladd, 1, 0, 0, []), (109, 0, .lstore_n 1, 1, 0, 0, []), (110, 0, .aload_n 0, 1, 0, 0, []), (111, 0, .aload_n 0, 1, 0, 0, []), (112, 0, .getfield 154, 3, 8, 60, [2, 0, 7009]), (115, 0, .iload_n 3, 1, 0, 0, []), (116, 0, .laload, 1, 0, 0, []), (117, 0, .aload_n 0, 1, 0, 0, []), (118, 0, .getfield 160, 3, 8, 62, [2, 0, 7011]), (121, 0, .iload_n 3, 1, 0, 0, []), (122, 0, .laload, 1, 0, 0, []), (123, 0, .ladd, 1, 0, 0, []), (124, 0, .putfield 665, 3, 8, 64, [1, 0, 7013]), (127, 0, .aload_n 0, 1, 0, 0, []), (128, 0, .getfield 163, 3, 8, 63, [2, 0, 7012]), (131, 0, .iload_n 3, 1, 0, 0, []), (132, 0, .laload, 1, 0, 0, []), (133, 0, .ldc2_w 707, 3, 65536, 0, [10048]), (136, 0, .lcmp, 1, 0, 0, []), (137, 0, .ifCond .le 8, 3, 0, 0, []), (140, 0, .aload_n 0, 1, 0, 0, []), (141, 0, .iconst 3, 1, 0, 0, []), (142, 0, .putfield 40, 3, 8, 13, [0, 0, 6202]), (145, 5, .iinc 3 1, 3, 0, 0, []), (148, 0, .goto (-75), 3, 0, 0, []), (151, 0, .aload_n 0, 1, 0, 0, []), (152, 0, .getfield 665, 3, 8, 64, [1, 0, 7013]), (155, 0, .ldc2_w 707, 3, 65536, 0, [10048]), (158, 0, .lcmp, 1, 0, 0, []), (159, 0, .ifCond .le 8, 3, 0, 0, []), (162, 0, .aload_n 0, 1, 0, 0, []), (163, 0, .iconst 3, 1, 0, 0, []), (164, 0, .putfield 40, 3, 8, 13, [0, 0, 6202]), (167, 6, .aload_n 0, 1, 0, 0, []), (168, 0, .invokevirtual 709, 3, 279, 8, [10049]), (171, 0, .iconst 0, 1, 0, 0, []), (172, 0, .istore_n 3, 1, 0, 0, []), (173, 7, .iload_n 3, 1, 0, 0, []), (174, 0, .aload_n 0, 1, 0, 0, []), (175, 0, .getfield 473, 3, 8, 20, [0, 0, 6209]), (178, 0, .if_icmp .ge 103, 3, 0, 0, []), (181, 0, .aload_n 0, 1, 0, 0, []), (182, 0, .getfield 78, 3, 8, 29, [2, 0, 6218]), (185, 0, .iload_n 3, 1, 0, 0, []), (186, 0, .aload_n 0, 1, 0, 0, []), (187, 0, .getfield 60, 3, 8, 23, [2, 0, 6212]), (190, 0, .iload_n 3, 1, 0, 0, []), (191, 0, .iaload, 1, 0, 0, []), (192, 0, .iconst 2, 1, 0, 0, []), (193, 0, .if_icmp .ne 12, 3, 0, 0, []), (196, 0, .aload_n 0, 1, 0, 0, []), (197, 0, .getfield 78, 3, 8, 29, [2, 0, 6218]), (200, 0, .iload_n 3, 1, 0, 0, []), (201, 0, .laload, 1, 0, 0, []), (202, 0, .goto 72, 3, 0, 0, []), (205, 0, .aload_n 0, 1, 0, 0, []), (206, 0, .getfield 60, 3, 8, 23, [2, 0, 6212]), (209, 0, .iload_n 3, 1, 0, 0, []), (210, 0, .iaload, 1, 0, 0, []), (211, 0, .iconst 4, 1, 0, 0, []), (212, 0, .if_icmp .ne 16, 3, 0, 0, []), (215, 0, .aload_n 0, 1, 0, 0, []), (216, 0, .aload_n 0, 1, 0, 0, []), (217, 0, .getfield 181, 3, 8, 73, [2, 0, 7022]), (220, 0, .iload_n 3, 1, 0, 0, []), (221, 0, .iaload, 1, 0, 0, []), (222, 0, .invokevirtual 712, 3, 280, 8, [10053]), (225, 0, .goto 49, 3, 0, 0, []), (228, 0, .aload_n 0, 1, 0, 0, []), (229, 0, .getfield 60, 3, 8, 23, [2, 0, 6212]), (232, 0, .iload_n 3, 1, 0, 0, []), (233, 0, .iaload, 1, 0, 0, []), (234, 0, .ifCond .ne 7, 3, 0, 0, []), (237, 0, .lconst 0, 1, 0, 0, []), (238, 0, .goto 36, 3, 0, 0, []), (241, 0, .aload_n 0, 1, 0, 0, []), (242, 0, .iload_n 3, 1, 0, 0, []), (243, 0, .invokevirtual 560, 3, 250, 8, [9172]), (246, 0, .ifCond .eq 12, 3, 0, 0, []), (249, 0, .aload_n 0, 1, 0, 0, []), (250, 0, .getfield 82, 3, 8, 30, [2, 0, 6219]), (253, 0, .iload_n 3, 1, 0, 0, []), (254, 0, .laload, 1, 0, 0, []), (255, 0, .goto 19, 3, 0, 0, []), (258, 0, .aload_n 0, 1, 0, 0, []), (259, 0, .aload_n 0, 1, 0, 0, []), (260, 0, .getfield 63, 3, 8, 24, [2, 0, 6213]), (263, 0, .iload_n 3, 1, 0, 0, []), (264, 0, .iaload, 1, 0, 0, []), (265, 0, .aload_n 0, 1, 0, 0, []), (266, 0, .getfield 66, 3, 8, 25, [2, 0, 6214]), (269, 0, .iload_n 3, 1, 0, 0, []), (270, 0, .iaload, 1, 0, 0, []), (271, 0, .invokevirtual 716, 3, 281, 8, [10057]), (274, 8, .lastore, 1, 0, 0, []), (275, 0, .iinc 3 1, 3, 0, 0, []), (278, 0, .goto (-105), 3, 0, 0, []), (281, 0, .return_, 1, 0, 0, [])]
def m_Model_layout : List aT := [(0, [(0, 2)], []), (2, [(0, 2), (1, 0)], []), (63, [(0, 2)], [1, 1, 2]), (73, [(0, 2), (1, 1), (3, 0)], []), (145, [(0, 2), (1, 1), (3, 0)], []), (167, [(0, 2)], []), (173, [(0, 2), (3, 0)], []), (274, [(0, 2), (3, 0)], [1, 0, 2])]
def B_Model_layout_0 (X : Nat → List Int → AMem → Prop) (Q : Int → AMem → Prop) (σ : AMem) : Prop :=
  X 1 [9790, 0] σ
def B_Model_layout_1 (X : Nat → List Int → AMem → Prop) (Q : Int → AMem → Prop) (x1 : Int) (σ : AMem) : Prop :=
  (if x1 < (σ 9790 20) then
  0 ≤ x1 ∧ x1 < 4096 ∧ am_let (am_upd σ 9811 x1 0) (fun σ6 => am_r32 (x1 + 1) ∧ X 1 [9790, (x1 + 1)] σ6)
  else
  T_Model_findSegments [9790] σ (fun r1 σ2 => T_Model_isThreaded [9790] σ2 (fun r3 σ4 => (if r3 = 0 ∨ r3 = 1 then am_let (am_upd σ4 9790 82 r3) (fun σ5 => (if (σ5 9790 82) = 0 then
    X 2 [9790, 0, (w64 (64 + (w64 (56 * (σ5 9790 15))))), 9790] σ5
    else
    X 2 [9790, 56, (w64 (64 + (w64 (56 * (σ5 9790 15))))), 9790] σ5)) else False))))
def B_Model_layout_2 (X : Nat → List Int → AMem → Prop) (Q : Int → AMem → Prop) (s0 s1 s2 : Int) (σ : AMem) : Prop :=
  (if ly_k s2 = 28 then (if ly_fin s2 64 = 0 then am_let (am_upd σ s2 64 (w64 (s1 + s0))) (fun σ1 => X 3 [9790, 4194304, 0] σ1) else False) else False)
def B_Model_layout_3 (X : Nat → List Int → AMem → Prop) (Q : Int → AMem → Prop) (x1 x3 : Int) (σ : AMem) : Prop :=
  (if x3 < 3 then
  T_Model_placeSegment [9790, x3, x1] σ (fun r2 σ3 => 0 ≤ x3 ∧ x3 < 3 ∧ (if (σ3 9835 x3) = 0 then
    X 4 [9790, x1, x3] σ3
    else
    0 ≤ x3 ∧ x3 < 3 ∧ 0 ≤ x3 ∧ x3 < 3 ∧ am_let (w64 ((σ3 9837 x3) + (σ3 9839 x3))) (fun y4 => 0 ≤ x3 ∧ x3 < 3 ∧ 0 ≤ x3 ∧ x3 < 3 ∧ am_let (am_upd σ3 9790 64 (w64 ((σ3 9836 x3) + (σ3 9838 x3)))) (fun σ5 => 0 ≤ x3 ∧ x3 < 3 ∧ (if 65536 < (σ5 9839 x3) then
      am_let (am_upd σ5 9790 13 3) (fun σ6 => X 4 [9790, y4, x3] σ6)
      else
      X 4 [9790, y4, x3] σ5)))))
  else
  (if 65536 < (σ 9790 64) then
    am_let (am_upd σ 9790 13 3) (fun σ1 => X 5 [9790] σ1)
    else
    X 5 [9790] σ))
def B_Model_layout_4 (X : Nat → List Int → AMem → Prop) (Q : Int → AMem → Prop) (x1 x3 : Int) (σ : AMem) : Prop :=
  am_r32 (x3 + 1) ∧ X 3 [9790, x1, (x3 + 1)] σ
def B_Model_layout_5 (X : Nat → List Int → AMem → Prop) (Q : Int → AMem → Prop) (σ : AMem) : Prop :=
  T_Model_findTemplate [9790] σ (fun r1 σ2 => X 6 [9790, 0] σ2)
def B_Model_layout_6 (X : Nat → List Int → AMem → Prop) (Q : Int → AMem → Prop) (x3 : Int) (σ : AMem) : Prop :=
  (if x3 < (σ 9790 20) then
  0 ≤ x3 ∧ x3 < 4096 ∧ (if (σ 9805 x3) = 2 then
    0 ≤ x3 ∧ x3 < 4096 ∧ X 7 [9790, x3, (σ 9811 x3), x3, 9811] σ
    else
    0 ≤ x3 ∧ x3 < 4096 ∧ (if (σ 9805 x3) = 4 then
      0 ≤ x3 ∧ x3 < 4096 ∧ T_Model_ownAddress [9790, (σ 9845 x3)] σ (fun r5 σ6 => X 7 [9790, x3, r5, x3, 9811] σ6)
      else
      0 ≤ x3 ∧ x3 < 4096 ∧ (if (σ 9805 x3) = 0 then
        X 7 [9790, x3, 0, x3, 9811] σ
        else
        T_Model_isGiven [9790, x3] σ (fun r1 σ2 => (if r1 = 0 then
          0 ≤ x3 ∧ x3 < 4096 ∧ 0 ≤ x3 ∧ x3 < 4096 ∧ T_Model_own [9790, (σ2 9806 x3), (σ2 9807 x3)] σ2 (fun r3 σ4 => X 7 [9790, x3, r3, x3, 9811] σ4)
          else
          0 ≤ x3 ∧ x3 < 4096 ∧ X 7 [9790, x3, (σ2 9812 x3), x3, 9811] σ2)))))
  else
  Q 0 σ)
def B_Model_layout_7 (X : Nat → List Int → AMem → Prop) (Q : Int → AMem → Prop) (x3 s0 s1 s2 : Int) (σ : AMem) : Prop :=
  (if ly_k s2 = 4 then 0 ≤ s1 ∧ s1 < ly_l s2 ∧ am_let (am_upd σ s2 s1 s0) (fun σ1 => am_r32 (x3 + 1) ∧ X 6 [9790, (x3 + 1)] σ1) else False)
def B_Model_layout : (Nat → List Int → AMem → Prop) → (Int → AMem → Prop) → Nat → List Int → AMem → Prop := fun X Q j v σ => am_sel [(am_v1 (fun t σ => if t = 9790 then B_Model_layout_0 X Q σ else False)), (am_v2 (fun t x1 σ => if t = 9790 then B_Model_layout_1 X Q x1 σ else False)), (am_v4 (fun t s0 s1 s2 σ => if t = 9790 then B_Model_layout_2 X Q s0 s1 s2 σ else False)), (am_v3 (fun t x1 x3 σ => if t = 9790 then B_Model_layout_3 X Q x1 x3 σ else False)), (am_v3 (fun t x1 x3 σ => if t = 9790 then B_Model_layout_4 X Q x1 x3 σ else False)), (am_v1 (fun t σ => if t = 9790 then B_Model_layout_5 X Q σ else False)), (am_v2 (fun t x3 σ => if t = 9790 then B_Model_layout_6 X Q x3 σ else False)), (am_v5 (fun t x3 s0 s1 s2 σ => if t = 9790 then B_Model_layout_7 X Q x3 s0 s1 s2 σ else False))] j v σ
def T_Model_layout : List Int → AMem → (Int → AMem → Prop) → Prop := am_T B_Model_layout
abbrev y_Model_layout : MethodName := ⟨"LinkHouseModel", "layout", "()V"⟩
def a_Model_layout : AC := (282, (y_Model_layout, prog_10_method_102_code, 4, (Option.none : Option Jvm.ClassFile.FieldType)), [2], 3, false, { frames := 8, cells := 0, slots := 0, locals := 246 }, T_Model_layout)
set_option maxRecDepth 100000 in
theorem ms_Model_layout : am_MSp a_Model_layout := am_ms_v 10005 9 10004 110009 8 rfl (by decide +kernel)
abbrev k_Model_layout : List AC := [a_Model_findSegments, a_Model_isThreaded, a_Model_placeSegment, a_Model_findTemplate, a_Model_ownAddress, a_Model_isGiven, a_Model_own]
set_option maxRecDepth 100000 in
theorem s_Model_layout : (am_chkR { frames := 8, cells := 0, slots := 0, locals := 246 } k_Model_layout && am_chkN c_Model_layout { frames := 8, cells := 0, slots := 0, locals := 246 } && c_Model_layout.all (am_chk "LinkHouseModel" prog_10_method_102_code 4 (Option.none : Option Jvm.ClassFile.FieldType) k_Model_layout) && c_Model_layout.all (am_chkL m_Model_layout) && decide (m_Model_layout[0]? = some (0, am_argp 0 [2], [])) && decide (am_argn [2] ≤ 4)) = true := by decide +kernel
set_option maxHeartbeats 150000 in
set_option maxRecDepth 100000 in
theorem h_Model_layout : ∀ X Q j v σ, B_Model_layout X Q j v σ → am_at GR k_Model_layout c_Model_layout m_Model_layout X Q 163 j v σ := fun X Q => am_sel_all (P := fun j v σ => am_at GR k_Model_layout c_Model_layout m_Model_layout X Q 163 j v σ) (⟨(am_v1_of (fun t σ h => am_tk (fun e => by subst e; exact fun h => h) h)), ⟨(am_v2_of (fun t x1 σ h => am_tk (fun e => by subst e; exact fun h => h) h)), ⟨(am_v4_of (fun t s0 s1 s2 σ h => am_tk (fun e => by subst e; exact fun h => h) h)), ⟨(am_v3_of (fun t x1 x3 σ h => am_tk (fun e => by subst e; exact fun h => h) h)), ⟨(am_v3_of (fun t x1 x3 σ h => am_tk (fun e => by subst e; exact fun h => h) h)), ⟨(am_v1_of (fun t σ h => am_tk (fun e => by subst e; exact fun h => h) h)), ⟨(am_v2_of (fun t x3 σ h => am_tk (fun e => by subst e; exact fun h => h) h)), ⟨(am_v5_of (fun t x3 s0 s1 s2 σ h => am_tk (fun e => by subst e; exact fun h => h) h)), trivial⟩⟩⟩⟩⟩⟩⟩⟩)
set_option maxRecDepth 100000 in
theorem S_Model_layout (l : Launch) (w : AW) : am_S l w GR a_Model_layout := am_sound (rt := 3) (cal := k_Model_layout) 282 y_Model_layout prog_10_method_102_code 4 (Option.none : Option Jvm.ClassFile.FieldType) [2] false { frames := 8, cells := 0, slots := 0, locals := 246 } B_Model_layout "LinkHouseModel" c_Model_layout m_Model_layout 163 ms_Model_layout (by decide +kernel) rfl rfl (am_cal (S_Model_findSegments l w) (am_cal (S_Model_isThreaded l w) (am_cal (S_Model_placeSegment l w) (am_cal (S_Model_findTemplate l w) (am_cal (S_Model_ownAddress l w) (am_cal (S_Model_isGiven l w) (am_cal (S_Model_own l w) (fun _ h => absurd h List.not_mem_nil)))))))) s_Model_layout h_Model_layout
set_option maxRecDepth 100000 in
theorem of_Model_layout {Q : Int → AMem → Prop} {σ : AMem} (h : ∀ X : Nat → List Int → AMem → Prop, (∀ (σ : AMem), B_Model_layout_0 X Q σ → X 0 [9790] σ) → (∀ (x1 : Int) (σ : AMem), B_Model_layout_1 X Q x1 σ → X 1 [9790, x1] σ) → (∀ (s0 s1 s2 : Int) (σ : AMem), B_Model_layout_2 X Q s0 s1 s2 σ → X 2 [9790, s0, s1, s2] σ) → (∀ (x1 x3 : Int) (σ : AMem), B_Model_layout_3 X Q x1 x3 σ → X 3 [9790, x1, x3] σ) → (∀ (x1 x3 : Int) (σ : AMem), B_Model_layout_4 X Q x1 x3 σ → X 4 [9790, x1, x3] σ) → (∀ (σ : AMem), B_Model_layout_5 X Q σ → X 5 [9790] σ) → (∀ (x3 : Int) (σ : AMem), B_Model_layout_6 X Q x3 σ → X 6 [9790, x3] σ) → (∀ (x3 s0 s1 s2 : Int) (σ : AMem), B_Model_layout_7 X Q x3 s0 s1 s2 σ → X 7 [9790, x3, s0, s1, s2] σ) → X 0 [9790] σ) : T_Model_layout [9790] σ Q := fun X hX => h X (fun σ h => hX 0 [9790] σ h) (fun x1 σ h => hX 1 [9790, x1] σ h) (fun s0 s1 s2 σ h => hX 2 [9790, s0, s1, s2] σ h) (fun x1 x3 σ h => hX 3 [9790, x1, x3] σ h) (fun x1 x3 σ h => hX 4 [9790, x1, x3] σ h) (fun σ h => hX 5 [9790] σ h) (fun x3 σ h => hX 6 [9790, x3] σ h) (fun x3 s0 s1 s2 σ h => hX 7 [9790, x3, s0, s1, s2] σ h)
def c_Model_symbolAddress : List aE := [(0, 1, .iload_n 2, 1, 0, 0, []), (1, 0, .ifCond .ne 5, 3, 0, 0, []), (4, 0, .lconst 0, 1, 0, 0, []), (5, 0, .lreturn, 1, 0, 0, []), (6, 0, .aload_n 0, 1, 0, 0, []), (7, 0, .aload_n 0, 1, 0, 0, []), (8, 0, .iload_n 1, 1, 0, 0, []), (9, 0, .invokevirtual 503, 3, 236, 8, [9124]), (12, 0, .iload_n 2, 1, 0, 0, []), (13, 0, .invokevirtual 375, 3, 201, 8, [8213]), (16, 0, .ifCond .ne 12, 3, 0, 0, []), (19, 0, .aload_n 0, 1, 0, 0, []), (20, 0, .iload_n 1, 1, 0, 0, []), (21, 0, .iload_n 2, 1, 0, 0, []), (22, 0, .invokevirtual 716, 3, 281, 8, [10057]), (25, 0, .goto 18, 3, 0, 0, []), (28, 0, .aload_n 0, 1, 0, 0, []), (29, 0, .getfield 78, 3, 8, 29, [2, 0, 6218]), (32, 0, .aload_n 0, 1, 0, 0, []), (33, 0, .aload_n 0, 1, 0, 0, []), (34, 0, .iload_n 1, 1, 0, 0, []), (35, 0, .invokevirtual 503, 3, 236, 8, [9124]), (38, 0, .iload_n 2, 1, 0, 0, []), (39, 0, .invokevirtual 541, 3, 234, 8, [9104]), (42, 0, .laload, 1, 0, 0, []), (43, 0, .lreturn, 1, 0, 0, [])]
def m_Model_symbolAddress : List aT := [(0, [(0, 2), (1, 0), (2, 0)], [])]
def B_Model_symbolAddress_0 (X : Nat → List Int → AMem → Prop) (Q : Int → AMem → Prop) (x1 x2 : Int) (σ : AMem) : Prop :=
  (if x2 = 0 then
  Q 0 σ
  else
  T_Model_object [9790, x1] σ (fun r1 σ2 => T_Model_bind [9790, r1, x2] σ2 (fun r3 σ4 => (if r3 = 0 then
    T_Model_own [9790, x1, x2] σ4 (fun r9 σ10 => Q r9 σ10)
    else
    T_Model_object [9790, x1] σ4 (fun r5 σ6 => T_Model_nameOf [9790, r5, x2] σ6 (fun r7 σ8 => 0 ≤ r7 ∧ r7 < 4096 ∧ Q (σ8 9811 r7) σ8))))))
def B_Model_symbolAddress : (Nat → List Int → AMem → Prop) → (Int → AMem → Prop) → Nat → List Int → AMem → Prop := fun X Q j v σ => am_sel [(am_v3 (fun t x1 x2 σ => if t = 9790 then B_Model_symbolAddress_0 X Q x1 x2 σ else False))] j v σ
def T_Model_symbolAddress : List Int → AMem → (Int → AMem → Prop) → Prop := am_T B_Model_symbolAddress
abbrev y_Model_symbolAddress : MethodName := ⟨"LinkHouseModel", "symbolAddress", "(II)J"⟩
def a_Model_symbolAddress : AC := (283, (y_Model_symbolAddress, prog_10_method_105_code, 3, (Option.some Jvm.ClassFile.FieldType.long)), [2, 0, 0], 1, false, { frames := 8, cells := 0, slots := 0, locals := 246 }, T_Model_symbolAddress)
set_option maxRecDepth 100000 in
theorem ms_Model_symbolAddress : am_MSp a_Model_symbolAddress := am_ms_v 10076 9 10075 111008 8 rfl (by decide +kernel)
abbrev k_Model_symbolAddress : List AC := [a_Model_object, a_Model_bind, a_Model_own, a_Model_nameOf]
set_option maxRecDepth 100000 in
theorem s_Model_symbolAddress : (am_chkR { frames := 8, cells := 0, slots := 0, locals := 246 } k_Model_symbolAddress && am_chkN c_Model_symbolAddress { frames := 8, cells := 0, slots := 0, locals := 246 } && c_Model_symbolAddress.all (am_chk "LinkHouseModel" prog_10_method_105_code 3 (Option.some Jvm.ClassFile.FieldType.long) k_Model_symbolAddress) && c_Model_symbolAddress.all (am_chkL m_Model_symbolAddress) && decide (m_Model_symbolAddress[0]? = some (0, am_argp 0 [2, 0, 0], [])) && decide (am_argn [2, 0, 0] ≤ 3)) = true := by decide +kernel
set_option maxHeartbeats 150000 in
set_option maxRecDepth 100000 in
theorem h_Model_symbolAddress : ∀ X Q j v σ, B_Model_symbolAddress X Q j v σ → am_at GR k_Model_symbolAddress c_Model_symbolAddress m_Model_symbolAddress X Q 31 j v σ := fun X Q => am_sel_all (P := fun j v σ => am_at GR k_Model_symbolAddress c_Model_symbolAddress m_Model_symbolAddress X Q 31 j v σ) (⟨(am_v3_of (fun t x1 x2 σ h => am_tk (fun e => by subst e; exact fun h => h) h)), trivial⟩)
set_option maxRecDepth 100000 in
theorem S_Model_symbolAddress (l : Launch) (w : AW) : am_S l w GR a_Model_symbolAddress := am_sound (rt := 1) (cal := k_Model_symbolAddress) 283 y_Model_symbolAddress prog_10_method_105_code 3 (Option.some Jvm.ClassFile.FieldType.long) [2, 0, 0] false { frames := 8, cells := 0, slots := 0, locals := 246 } B_Model_symbolAddress "LinkHouseModel" c_Model_symbolAddress m_Model_symbolAddress 31 ms_Model_symbolAddress (by decide +kernel) rfl rfl (am_cal (S_Model_object l w) (am_cal (S_Model_bind l w) (am_cal (S_Model_own l w) (am_cal (S_Model_nameOf l w) (fun _ h => absurd h List.not_mem_nil))))) s_Model_symbolAddress h_Model_symbolAddress
set_option maxRecDepth 100000 in
theorem of_Model_symbolAddress {Q : Int → AMem → Prop} {x1 x2 : Int} {σ : AMem} (h : ∀ X : Nat → List Int → AMem → Prop, (∀ (x1 x2 : Int) (σ : AMem), B_Model_symbolAddress_0 X Q x1 x2 σ → X 0 [9790, x1, x2] σ) → X 0 [9790, x1, x2] σ) : T_Model_symbolAddress [9790, x1, x2] σ Q := fun X hX => h X (fun x1 x2 σ h => hX 0 [9790, x1, x2] σ h)
set_option maxRecDepth 100000 in
theorem iff_Model_symbolAddress {Q : Int → AMem → Prop} {X : Nat → List Int → AMem → Prop} {x1 x2 : Int} {σ : AMem} : T_Model_symbolAddress [9790, x1, x2] σ Q ↔ B_Model_symbolAddress_0 X Q x1 x2 σ := ⟨fun h => h (fun j v σ => B_Model_symbolAddress X Q j v σ) (fun _ _ _ q => q), fun h _ hX => hX 0 _ _ h⟩
def c_Model_siteAddress : List aE := [(0, 1, .aload_n 0, 1, 0, 0, []), (1, 0, .getfield 148, 3, 8, 58, [2, 0, 7007]), (4, 0, .bipush 24, 2, 0, 0, []), (6, 0, .iload_n 1, 1, 0, 0, []), (7, 0, .imul, 1, 0, 0, []), (8, 0, .aload_n 0, 1, 0, 0, []), (9, 0, .aload_n 0, 1, 0, 0, []), (10, 0, .iload_n 1, 1, 0, 0, []), (11, 0, .invokevirtual 503, 3, 236, 8, [9124]), (14, 0, .iload_n 2, 1, 0, 0, []), (15, 0, .invokevirtual 408, 3, 207, 8, [9000]), (18, 0, .l2i, 1, 0, 0, []), (19, 0, .iadd, 1, 0, 0, []), (20, 0, .laload, 1, 0, 0, []), (21, 0, .aload_n 0, 1, 0, 0, []), (22, 0, .aload_n 0, 1, 0, 0, []), (23, 0, .aload_n 0, 1, 0, 0, []), (24, 0, .iload_n 1, 1, 0, 0, []), (25, 0, .invokevirtual 503, 3, 236, 8, [9124]), (28, 0, .iload_n 2, 1, 0, 0, []), (29, 0, .iload_n 3, 1, 0, 0, []), (30, 0, .invokevirtual 411, 3, 210, 8, [9012]), (33, 0, .bipush 8, 2, 0, 0, []), (35, 0, .invokevirtual 291, 3, 183, 8, [8120]), (38, 0, .ladd, 1, 0, 0, []), (39, 0, .lreturn, 1, 0, 0, [])]
def m_Model_siteAddress : List aT := [(0, [(0, 2), (1, 0), (2, 0), (3, 0)], [])]
def B_Model_siteAddress_0 (X : Nat → List Int → AMem → Prop) (Q : Int → AMem → Prop) (x1 x2 x3 : Int) (σ : AMem) : Prop :=
  am_r32 (24 * x1) ∧ T_Model_object [9790, x1] σ (fun r1 σ2 => T_Model_info [9790, r1, x2] σ2 (fun r3 σ4 => am_r32 ((24 * x1) + (w32 r3)) ∧ 0 ≤ ((24 * x1) + (w32 r3)) ∧ ((24 * x1) + (w32 r3)) < 1536 ∧ T_Model_object [9790, x1] σ4 (fun r5 σ6 => T_Model_site [9790, r5, x2, x3] σ6 (fun r7 σ8 => T_Model_num [9790, r7, 8] σ8 (fun r9 σ10 => Q (w64 ((σ4 9834 ((24 * x1) + (w32 r3))) + r9)) σ10)))))
def B_Model_siteAddress : (Nat → List Int → AMem → Prop) → (Int → AMem → Prop) → Nat → List Int → AMem → Prop := fun X Q j v σ => am_sel [(am_v4 (fun t x1 x2 x3 σ => if t = 9790 then B_Model_siteAddress_0 X Q x1 x2 x3 σ else False))] j v σ
def T_Model_siteAddress : List Int → AMem → (Int → AMem → Prop) → Prop := am_T B_Model_siteAddress
abbrev y_Model_siteAddress : MethodName := ⟨"LinkHouseModel", "siteAddress", "(III)J"⟩
def a_Model_siteAddress : AC := (284, (y_Model_siteAddress, prog_10_method_106_code, 4, (Option.some Jvm.ClassFile.FieldType.long)), [2, 0, 0, 0], 1, false, { frames := 4, cells := 0, slots := 0, locals := 124 }, T_Model_siteAddress)
set_option maxRecDepth 100000 in
theorem ms_Model_siteAddress : am_MSp a_Model_siteAddress := am_ms_v 10080 9 10079 111009 8 rfl (by decide +kernel)
abbrev k_Model_siteAddress : List AC := [a_Model_object, a_Model_info, a_Model_site, a_Model_num]
set_option maxRecDepth 100000 in
theorem s_Model_siteAddress : (am_chkR { frames := 4, cells := 0, slots := 0, locals := 124 } k_Model_siteAddress && am_chkN c_Model_siteAddress { frames := 4, cells := 0, slots := 0, locals := 124 } && c_Model_siteAddress.all (am_chk "LinkHouseModel" prog_10_method_106_code 4 (Option.some Jvm.ClassFile.FieldType.long) k_Model_siteAddress) && c_Model_siteAddress.all (am_chkL m_Model_siteAddress) && decide (m_Model_siteAddress[0]? = some (0, am_argp 0 [2, 0, 0, 0], [])) && decide (am_argn [2, 0, 0, 0] ≤ 4)) = true := by decide +kernel
set_option maxHeartbeats 150000 in
set_option maxRecDepth 100000 in
theorem h_Model_siteAddress : ∀ X Q j v σ, B_Model_siteAddress X Q j v σ → am_at GR k_Model_siteAddress c_Model_siteAddress m_Model_siteAddress X Q 31 j v σ := fun X Q => am_sel_all (P := fun j v σ => am_at GR k_Model_siteAddress c_Model_siteAddress m_Model_siteAddress X Q 31 j v σ) (⟨(am_v4_of (fun t x1 x2 x3 σ h => am_tk (fun e => by subst e; exact fun h => h) h)), trivial⟩)
set_option maxRecDepth 100000 in
theorem S_Model_siteAddress (l : Launch) (w : AW) : am_S l w GR a_Model_siteAddress := am_sound (rt := 1) (cal := k_Model_siteAddress) 284 y_Model_siteAddress prog_10_method_106_code 4 (Option.some Jvm.ClassFile.FieldType.long) [2, 0, 0, 0] false { frames := 4, cells := 0, slots := 0, locals := 124 } B_Model_siteAddress "LinkHouseModel" c_Model_siteAddress m_Model_siteAddress 31 ms_Model_siteAddress (by decide +kernel) rfl rfl (am_cal (S_Model_object l w) (am_cal (S_Model_info l w) (am_cal (S_Model_site l w) (am_cal (S_Model_num l w) (fun _ h => absurd h List.not_mem_nil))))) s_Model_siteAddress h_Model_siteAddress
set_option maxRecDepth 100000 in
theorem of_Model_siteAddress {Q : Int → AMem → Prop} {x1 x2 x3 : Int} {σ : AMem} (h : ∀ X : Nat → List Int → AMem → Prop, (∀ (x1 x2 x3 : Int) (σ : AMem), B_Model_siteAddress_0 X Q x1 x2 x3 σ → X 0 [9790, x1, x2, x3] σ) → X 0 [9790, x1, x2, x3] σ) : T_Model_siteAddress [9790, x1, x2, x3] σ Q := fun X hX => h X (fun x1 x2 x3 σ h => hX 0 [9790, x1, x2, x3] σ h)
set_option maxRecDepth 100000 in
theorem iff_Model_siteAddress {Q : Int → AMem → Prop} {X : Nat → List Int → AMem → Prop} {x1 x2 x3 : Int} {σ : AMem} : T_Model_siteAddress [9790, x1, x2, x3] σ Q ↔ B_Model_siteAddress_0 X Q x1 x2 x3 σ := ⟨fun h => h (fun j v σ => B_Model_siteAddress X Q j v σ) (fun _ _ _ q => q), fun h _ hX => hX 0 _ _ h⟩
def c_Model_isOfStrings : List aE := [(0, 1, .aload_n 0, 1, 0, 0, []), (1, 0, .iload_n 1, 1, 0, 0, []), (2, 0, .invokevirtual 503, 3, 236, 8, [9124]), (5, 0, .istore_n 3, 1, 0, 0, []), (6, 0, .iload_n 2, 1, 0, 0, []), (7, 0, .ifCond .eq 32, 3, 0, 0, []), (10, 0, .aload_n 0, 1, 0, 0, []), (11, 0, .iload_n 3, 1, 0, 0, []), (12, 0, .iload_n 2, 1, 0, 0, []), (13, 0, .invokevirtual 375, 3, 201, 8, [8213]), (16, 0, .ifCond .ne 23, 3, 0, 0, []), (19, 0, .aload_n 0, 1, 0, 0, []), (20, 0, .getfield 17, 3, 8, 6, [2, 0, 6195]), (23, 0, .aload_n 0, 1, 0, 0, []), (24, 0, .iload_n 3, 1, 0, 0, []), (25, 0, .iload_n 2, 1, 0, 0, []), (26, 0, .invokevirtual 326, 3, 199, 8, [8209]), (29, 0, .iconst 4, 1, 0, 0, []), (30, 0, .iadd, 1, 0, 0, []), (31, 0, .baload, 1, 2, 0, []), (32, 0, .bipush 15, 2, 0, 0, []), (34, 0, .iand, 1, 0, 0, []), (35, 0, .iconst 3, 1, 0, 0, []), (36, 0, .if_icmp .eq 5, 3, 0, 0, []), (39, 0, .iconst 0, 1, 0, 0, []), (40, 0, .ireturn, 1, 1, 0, []), (41, 0, .aload_n 0, 1, 0, 0, []), (42, 0, .iload_n 1, 1, 0, 0, []), (43, 0, .iload_n 2, 1, 0, 0, []), (44, 0, .invokevirtual 506, 3, 240, 8, [9144]), (47, 0, .istore 4, 2, 0, 0, []), (49, 0, .aload_n 0, 1, 0, 0, []), (50, 0, .iload_n 1, 1, 0, 0, []), (51, 0, .iload 4, 2, 0, 0, []), (53, 0, .invokevirtual 580, 3, 263, 8, [9234]), (56, 0, .ifCond .eq 27, 3, 0, 0, []), (59, 0, .aload_n 0, 1, 0, 0, []), (60, 0, .iload_n 1, 1, 0, 0, []), (61, 0, .iload 4, 2, 0, 0, []), (63, 0, .invokevirtual 591, 3, 255, 8, [9188]), (66, 0, .ifCond .eq 17, 3, 0, 0, []), (69, 0, .aload_n 0, 1, 0, 0, []), (70, 0, .iload_n 3, 1, 0, 0, []), (71, 0, .iload 4, 2, 0, 0, []), (73, 0, .invokevirtual 617, 3, 258, 8, [9201]), (76, 0, .ifCond .eq 7, 3, 0, 0, []), (79, 0, .iconst 1, 1, 0, 0, []), (80, 0, .goto 4, 3, 0, 0, []), (83, 0, .iconst 0, 1, 0, 0, []), (84, 0, .ireturn, 1, 1, 0, [])]
def m_Model_isOfStrings : List aT := [(0, [(0, 2), (1, 0), (2, 0)], [])]
def B_Model_isOfStrings_0 (X : Nat → List Int → AMem → Prop) (Q : Int → AMem → Prop) (x1 x2 : Int) (σ : AMem) : Prop :=
  T_Model_object [9790, x1] σ (fun r1 σ2 => (if x2 = 0 then
  Q 0 σ2
  else
  T_Model_bind [9790, r1, x2] σ2 (fun r3 σ4 => (if r3 = 0 then
    T_Model_symbol [9790, r1, x2] σ4 (fun r5 σ6 => am_r32 (r5 + 4) ∧ 0 ≤ (r5 + 4) ∧ (r5 + 4) < 65536 ∧ (if (i_and (σ6 9793 (r5 + 4)) 15) = 3 then
      T_Model_whereNow [9790, x1, x2] σ6 (fun r7 σ8 => T_Model_isSectionNow [9790, x1, r7] σ8 (fun r9 σ10 => (if r9 = 0 then
        Q 0 σ10
        else
        T_Model_stays [9790, x1, r7] σ10 (fun r11 σ12 => (if r11 = 0 then
          Q 0 σ12
          else
          T_Model_isStrings [9790, r1, r7] σ12 (fun r13 σ14 => (if r13 = 0 then
            Q 0 σ14
            else
            Q 1 σ14)))))))
      else
      Q 0 σ6))
    else
    Q 0 σ4))))
def B_Model_isOfStrings : (Nat → List Int → AMem → Prop) → (Int → AMem → Prop) → Nat → List Int → AMem → Prop := fun X Q j v σ => am_sel [(am_v3 (fun t x1 x2 σ => if t = 9790 then B_Model_isOfStrings_0 X Q x1 x2 σ else False))] j v σ
def T_Model_isOfStrings : List Int → AMem → (Int → AMem → Prop) → Prop := am_T B_Model_isOfStrings
abbrev y_Model_isOfStrings : MethodName := ⟨"LinkHouseModel", "isOfStrings", "(II)Z"⟩
def a_Model_isOfStrings : AC := (285, (y_Model_isOfStrings, prog_10_method_107_code, 5, (Option.some Jvm.ClassFile.FieldType.boolean)), [2, 0, 0], 0, false, { frames := 7, cells := 0, slots := 0, locals := 214 }, T_Model_isOfStrings)
set_option maxRecDepth 100000 in
theorem ms_Model_isOfStrings : am_MSp a_Model_isOfStrings := am_ms_v 10084 9 10083 111010 8 rfl (by decide +kernel)
abbrev k_Model_isOfStrings : List AC := [a_Model_object, a_Model_bind, a_Model_symbol, a_Model_whereNow, a_Model_isSectionNow, a_Model_stays, a_Model_isStrings]
set_option maxRecDepth 100000 in
theorem s_Model_isOfStrings : (am_chkR { frames := 7, cells := 0, slots := 0, locals := 214 } k_Model_isOfStrings && am_chkN c_Model_isOfStrings { frames := 7, cells := 0, slots := 0, locals := 214 } && c_Model_isOfStrings.all (am_chk "LinkHouseModel" prog_10_method_107_code 5 (Option.some Jvm.ClassFile.FieldType.boolean) k_Model_isOfStrings) && c_Model_isOfStrings.all (am_chkL m_Model_isOfStrings) && decide (m_Model_isOfStrings[0]? = some (0, am_argp 0 [2, 0, 0], [])) && decide (am_argn [2, 0, 0] ≤ 5)) = true := by decide +kernel
set_option maxHeartbeats 150000 in
set_option maxRecDepth 100000 in
theorem h_Model_isOfStrings : ∀ X Q j v σ, B_Model_isOfStrings X Q j v σ → am_at GR k_Model_isOfStrings c_Model_isOfStrings m_Model_isOfStrings X Q 55 j v σ := fun X Q => am_sel_all (P := fun j v σ => am_at GR k_Model_isOfStrings c_Model_isOfStrings m_Model_isOfStrings X Q 55 j v σ) (⟨(am_v3_of (fun t x1 x2 σ h => am_tk (fun e => by subst e; exact fun h => h) h)), trivial⟩)
set_option maxRecDepth 100000 in
theorem S_Model_isOfStrings (l : Launch) (w : AW) : am_S l w GR a_Model_isOfStrings := am_sound (rt := 0) (cal := k_Model_isOfStrings) 285 y_Model_isOfStrings prog_10_method_107_code 5 (Option.some Jvm.ClassFile.FieldType.boolean) [2, 0, 0] false { frames := 7, cells := 0, slots := 0, locals := 214 } B_Model_isOfStrings "LinkHouseModel" c_Model_isOfStrings m_Model_isOfStrings 55 ms_Model_isOfStrings (by decide +kernel) rfl rfl (am_cal (S_Model_object l w) (am_cal (S_Model_bind l w) (am_cal (S_Model_symbol l w) (am_cal (S_Model_whereNow l w) (am_cal (S_Model_isSectionNow l w) (am_cal (S_Model_stays l w) (am_cal (S_Model_isStrings l w) (fun _ h => absurd h List.not_mem_nil)))))))) s_Model_isOfStrings h_Model_isOfStrings
set_option maxRecDepth 100000 in
theorem of_Model_isOfStrings {Q : Int → AMem → Prop} {x1 x2 : Int} {σ : AMem} (h : ∀ X : Nat → List Int → AMem → Prop, (∀ (x1 x2 : Int) (σ : AMem), B_Model_isOfStrings_0 X Q x1 x2 σ → X 0 [9790, x1, x2] σ) → X 0 [9790, x1, x2] σ) : T_Model_isOfStrings [9790, x1, x2] σ Q := fun X hX => h X (fun x1 x2 σ h => hX 0 [9790, x1, x2] σ h)
set_option maxRecDepth 100000 in
theorem iff_Model_isOfStrings {Q : Int → AMem → Prop} {X : Nat → List Int → AMem → Prop} {x1 x2 : Int} {σ : AMem} : T_Model_isOfStrings [9790, x1, x2] σ Q ↔ B_Model_isOfStrings_0 X Q x1 x2 σ := ⟨fun h => h (fun j v σ => B_Model_isOfStrings X Q j v σ) (fun _ _ _ q => q), fun h _ hX => hX 0 _ _ h⟩
def c_Model_siteValue : List aE := [(0, 1, .aload_n 0, 1, 0, 0, []), (1, 0, .aload_n 0, 1, 0, 0, []), (2, 0, .iload_n 1, 1, 0, 0, []), (3, 0, .invokevirtual 503, 3, 236, 8, [9124]), (6, 0, .iload_n 2, 1, 0, 0, []), (7, 0, .iload_n 3, 1, 0, 0, []), (8, 0, .invokevirtual 411, 3, 210, 8, [9012]), (11, 0, .istore 4, 2, 0, 0, []), (13, 0, .aload_n 0, 1, 0, 0, []), (14, 0, .iload 4, 2, 0, 0, []), (16, 0, .bipush 8, 2, 0, 0, []), (18, 0, .iadd, 1, 0, 0, []), (19, 0, .iconst 4, 1, 0, 0, []), (20, 0, .invokevirtual 291, 3, 183, 8, [8120]), (23, 0, .lstore 5, 2, 0, 0, []), (25, 0, .aload_n 0, 1, 0, 0, []), (26, 0, .iload 4, 2, 0, 0, []), (28, 0, .bipush 12, 2, 0, 0, []), (30, 0, .iadd, 1, 0, 0, []), (31, 0, .iconst 4, 1, 0, 0, []), (32, 0, .invokevirtual 291, 3, 183, 8, [8120]), (35, 0, .l2i, 1, 0, 0, []), (36, 0, .istore 7, 2, 0, 0, []), (38, 0, .aload_n 0, 1, 0, 0, []), (39, 0, .iload 4, 2, 0, 0, []), (41, 0, .bipush 16, 2, 0, 0, []), (43, 0, .iadd, 1, 0, 0, []), (44, 0, .bipush 8, 2, 0, 0, []), (46, 0, .invokevirtual 291, 3, 183, 8, [8120]), (49, 0, .lstore 8, 2, 0, 0, []), (51, 0, .aload_n 0, 1, 0, 0, []), (52, 0, .iload_n 1, 1, 0, 0, []), (53, 0, .iload_n 2, 1, 0, 0, []), (54, 0, .iload_n 3, 1, 0, 0, []), (55, 0, .invokevirtual 594, 3, 266, 8, [9221]), (58, 0, .ifCond .eq 39, 3, 0, 0, []), (61, 0, .aload_n 0, 1, 0, 0, []), (62, 0, .iload_n 1, 1, 0, 0, []), (63, 0, .iload 7, 2, 0, 0, []), (65, 0, .invokevirtual 719, 3, 283, 8, [10073]), (68, 0, .lload 8, 2, 0, 0, []), (70, 0, .ladd, 1, 0, 0, []), (71, 0, .aload_n 0, 1, 0, 0, []), (72, 0, .iload_n 1, 1, 0, 0, []), (73, 0, .iload_n 2, 1, 0, 0, []), (74, 0, .iload_n 3, 1, 0, 0, []), (75, 0, .invokevirtual 722, 3, 284, 8, [10077]), (78, 0, .lsub, 1, 0, 0, []), (79, 0, .aload_n 0, 1, 0, 0, []), (80, 0, .iload_n 1, 1, 0, 0, []), (81, 0, .iload_n 2, 1, 0, 0, []), (82, 0, .iload_n 3, 1, 0, 0, []), (83, 0, .invokevirtual 588, 3, 265, 8, [9225]), (86, 0, .iconst 3, 1, 0, 0, []), (87, 0, .if_icmp .ne 7, 3, 0, 0, []), (90, 0, .lconst 1, 1, 0, 0, []), (91, 0, .goto 4, 3, 0, 0, []), (94, 0, .lconst 0, 1, 0, 0, []), (95, 0, .ladd, 1, 0, 0, []), (96, 0, .lreturn, 1, 0, 0, []), (97, 0, .lload 5, 2, 0, 0, []), (99, 0, .lconst 1, 1, 0, 0, []), (100, 0, .lcmp, 1, 0, 0, []), (101, 0, .ifCond .eq 21, 3, 0, 0, []), (104, 0, .lload 5, 2, 0, 0, []), (106, 0, .ldc2_w 399, 3, 10, 0, [9020]), (109, 0, .lcmp, 1, 0, 0, []), (110, 0, .ifCond .eq 12, 3, 0, 0, []), (113, 0, .lload 5, 2, 0, 0, []), (115, 0, .ldc2_w 401, 3, 11, 0, [9021]), (118, 0, .lcmp, 1, 0, 0, []), (119, 0, .ifCond .ne 48, 3, 0, 0, []), (122, 2, .aload_n 0, 1, 0, 0, []), (123, 0, .iload_n 1, 1, 0, 0, []), (124, 0, .iload 7, 2, 0, 0, []), (126, 0, .invokevirtual 725, 3, 285, 8, [10081]), (129, 0, .ifCond .eq 38, 3, 0, 0, []), (132, 0, .aload_n 0, 1, 0, 0, []), (133, 0, .aload_n 0, 1, 0, 0, []), (134, 0, .iload_n 1, 1, 0, 0, []), (135, 0, .invokevirtual 503, 3, 236, 8, [9124]), (138, 0, .aload_n 0, 1, 0, 0, []), (139, 0, .aload_n 0, 1, 0, 0, []), (140, 0, .iload_n 1, 1, 0, 0, []), (141, 0, .invokevirtual 503, 3, 236, 8, [9124]), (144, 0, .iload 7, 2, 0, 0, []), (146, 0, .invokevirtual 372, 3, 200, 8, [8205]), (149, 0, .aload_n 0, 1, 0, 0, []), (150, 0, .aload_n 0, 1, 0, 0, []), (151, 0, .iload_n 1, 1, 0, 0, []), (152, 0, .invokevirtual 503, 3, 236, 8, [9124]), (155, 0, .iload 7, 2, 0, 0, []), (157, 0, .invokevirtual 383, 3, 203, 8, [8223]), (160, 0, .lload 8, 2, 0, 0, []), (162, 0, .ladd, 1, 0, 0, []), (163, 0, .invokevirtual 646, 3, 275, 8, [10039]), (166, 0, .lreturn, 1, 0, 0, []), (167, 3, .lload 5, 2, 0, 0, []), (169, 0, .invokestatic 405, 3, 211, 0, [9023]), (172, 0, .ifCond .eq 37, 3, 0, 0, []), (175, 0, .aload_n 0, 1, 0, 0, []), (176, 0, .getfield 681, 3, 8, 79, [1, 0, 7028]), (179, 0, .ldc2_w 302, 3, 8, 0, [8155]), (182, 0, .aload_n 0, 1, 0, 0, []), (183, 0, .iload_n 1, 1, 0, 0, []), (184, 0, .iload 7, 2, 0, 0, []), (186, 0, .lload 5, 2, 0, 0, []), (188, 0, .ldc2_w 391, 3, 22, 0, [9027]), (191, 0, .lcmp, 1, 0, 0, []), (192, 0, .ifCond .ne 7, 3, 0, 0, []), (195, 0, .iconst 1, 1, 0, 0, []), (196, 0, .goto 4, 3, 0, 0, []), (199, 0, .iconst 0, 1, 0, 0, []), (200, 4, .invokevirtual 597, 3, 267, 8, [9238]), (203, 0, .i2l, 1, 0, 0, []), (204, 0, .lmul, 1, 0, 0, []), (205, 0, .ladd, 1, 0, 0, []), (206, 0, .goto 10, 3, 0, 0, []), (209, 0, .aload_n 0, 1, 0, 0, []), (210, 0, .iload_n 1, 1, 0, 0, []), (211, 0, .iload 7, 2, 0, 0, []), (213, 0, .invokevirtual 719, 3, 283, 8, [10073]), (216, 5, .lload 8, 2, 0, 0, []), (218, 0, .ladd, 1, 0, 0, []), (219, 0, .lstore 10, 2, 0, 0, []), (221, 0, .lload 5, 2, 0, 0, []), (223, 0, .ldc2_w 307, 3, 2, 0, [8172]), (226, 0, .lcmp, 1, 0, 0, []), (227, 0, .ifCond .eq 20, 3, 0, 0, []), (230, 0, .lload 5, 2, 0, 0, []), (232, 0, .ldc2_w 311, 3, 4, 0, [8239]), (235, 0, .lcmp, 1, 0, 0, []), (236, 0, .ifCond .eq 11, 3, 0, 0, []), (239, 0, .lload 5, 2, 0, 0, []), (241, 0, .invokestatic 405, 3, 211, 0, [9023]), (244, 0, .ifCond .eq 16, 3, 0, 0, []), (247, 6, .lload 10, 2, 0, 0, []), (249, 0, .aload_n 0, 1, 0, 0, []), (250, 0, .iload_n 1, 1, 0, 0, []), (251, 0, .iload_n 2, 1, 0, 0, []), (252, 0, .iload_n 3, 1, 0, 0, []), (253, 0, .invokevirtual 722, 3, 284, 8, [10077]), (256, 0, .lsub, 1, 0, 0, []), (257, 0, .goto 33, 3, 0, 0, []), (260, 0, .lload 5, 2, 0, 0, []), (262, 0, .ldc2_w 397, 3, 18, 0, [9019]), (265, 0, .lcmp, 1, 0, 0, []), (266, 0, .ifCond .eq 12, 3, 0, 0, []), (269, 0, .lload 5, 2, 0, 0, []), (271, 0, .ldc2_w 403, 3, 23, 0, [9022]), (274, 0, .lcmp, 1, 0, 0, []), (275, 0, .ifCond .ne 13, 3, 0, 0, []), (278, 7, .lload 10, 2, 0, 0, []), (280, 0, .aload_n 0, 1, 0, 0, []), (281, 0, .getfield 662, 3, 8, 87, [1, 0, 7036]), (284, 0, .lsub, 1, 0, 0, []), (285, 0, .goto 5, 3, 0, 0, []), (288, 0, .lload 10, 2, 0, 0, []), (290, 0, .lreturn, 1, 0, 0, [])]
def m_Model_siteValue : List aT := [(0, [(0, 2), (1, 0), (2, 0), (3, 0)], []), (122, [(0, 2), (1, 0), (2, 0), (3, 0), (5, 1), (7, 0), (8, 1)], []), (167, [(0, 2), (1, 0), (2, 0), (3, 0), (5, 1), (7, 0), (8, 1)], []), (200, [(0, 2), (1, 0), (2, 0), (3, 0), (5, 1), (8, 1)], [0, 0, 0, 2, 1, 1]), (216, [(0, 2), (1, 0), (2, 0), (3, 0), (5, 1), (8, 1)], [1]), (247, [(0, 2), (1, 0), (2, 0), (3, 0), (10, 1)], []), (278, [(0, 2), (10, 1)], [])]
def B_Model_siteValue_0 (X : Nat → List Int → AMem → Prop) (Q : Int → AMem → Prop) (x1 x2 x3 : Int) (σ : AMem) : Prop :=
  T_Model_object [9790, x1] σ (fun r1 σ2 => T_Model_site [9790, r1, x2, x3] σ2 (fun r3 σ4 => am_r32 (r3 + 8) ∧ T_Model_num [9790, (r3 + 8), 4] σ4 (fun r5 σ6 => am_r32 (r3 + 12) ∧ T_Model_num [9790, (r3 + 12), 4] σ6 (fun r7 σ8 => am_r32 (r3 + 16) ∧ T_Model_num [9790, (r3 + 16), 8] σ8 (fun r9 σ10 => T_Model_isShort [9790, x1, x2, x3] σ10 (fun r11 σ12 => (if r11 = 0 then
  (if r5 = 1 then
    X 1 [9790, x1, x2, x3, r5, (w32 r7), r9] σ12
    else
    (if r5 = 10 then
      X 1 [9790, x1, x2, x3, r5, (w32 r7), r9] σ12
      else
      (if r5 = 11 then
        X 1 [9790, x1, x2, x3, r5, (w32 r7), r9] σ12
        else
        X 2 [9790, x1, x2, x3, r5, (w32 r7), r9] σ12)))
  else
  T_Model_symbolAddress [9790, x1, (w32 r7)] σ12 (fun r13 σ14 => T_Model_siteAddress [9790, x1, x2, x3] σ14 (fun r15 σ16 => T_Model_shortKind [9790, x1, x2, x3] σ16 (fun r17 σ18 => (if r17 = 3 then
    Q (w64 ((w64 ((w64 (r13 + r9)) - r15)) + 1)) σ18
    else
    Q (w64 ((w64 ((w64 (r13 + r9)) - r15)) + 0)) σ18)))))))))))
def B_Model_siteValue_1 (X : Nat → List Int → AMem → Prop) (Q : Int → AMem → Prop) (x1 x2 x3 x5 x7 x8 : Int) (σ : AMem) : Prop :=
  T_Model_isOfStrings [9790, x1, x7] σ (fun r1 σ2 => (if r1 = 0 then
  X 2 [9790, x1, x2, x3, x5, x7, x8] σ2
  else
  T_Model_object [9790, x1] σ2 (fun r3 σ4 => T_Model_object [9790, x1] σ4 (fun r5 σ6 => T_Model_where [9790, r5, x7] σ6 (fun r7 σ8 => T_Model_object [9790, x1] σ8 (fun r9 σ10 => T_Model_value [9790, r9, x7] σ10 (fun r11 σ12 => T_Model_byteAddress [9790, r3, r7, (w64 (r11 + x8))] σ12 (fun r13 σ14 => Q r13 σ14))))))))
def B_Model_siteValue_2 (X : Nat → List Int → AMem → Prop) (Q : Int → AMem → Prop) (x1 x2 x3 x5 x7 x8 : Int) (σ : AMem) : Prop :=
  T_Model_isSlotted [x5] σ (fun r1 σ2 => (if r1 = 0 then
  T_Model_symbolAddress [9790, x1, x7] σ2 (fun r3 σ4 => X 4 [9790, x1, x2, x3, x5, x8, r3] σ4)
  else
  (if x5 = 22 then
    X 3 [9790, x1, x2, x3, x5, x8, 1, x7, x1, 9790, 8, (σ2 9790 79)] σ2
    else
    X 3 [9790, x1, x2, x3, x5, x8, 0, x7, x1, 9790, 8, (σ2 9790 79)] σ2)))
def B_Model_siteValue_3 (X : Nat → List Int → AMem → Prop) (Q : Int → AMem → Prop) (x1 x2 x3 x5 x8 s0 s1 s2 s3 s4 s5 : Int) (σ : AMem) : Prop :=
  (if ly_k s3 = 28 then T_Model_slotOf [s3, s2, s1, s0] σ (fun r1 σ2 => X 4 [9790, x1, x2, x3, x5, x8, (w64 (s5 + (w64 (s4 * r1))))] σ2) else False)
def B_Model_siteValue_4 (X : Nat → List Int → AMem → Prop) (Q : Int → AMem → Prop) (x1 x2 x3 x5 x8 s0 : Int) (σ : AMem) : Prop :=
  (if x5 = 2 then
  X 5 [9790, x1, x2, x3, (w64 (s0 + x8))] σ
  else
  (if x5 = 4 then
    X 5 [9790, x1, x2, x3, (w64 (s0 + x8))] σ
    else
    T_Model_isSlotted [x5] σ (fun r1 σ2 => (if r1 = 0 then
      (if x5 = 18 then
        X 6 [9790, (w64 (s0 + x8))] σ2
        else
        (if x5 = 23 then
          X 6 [9790, (w64 (s0 + x8))] σ2
          else
          Q (w64 (s0 + x8)) σ2))
      else
      X 5 [9790, x1, x2, x3, (w64 (s0 + x8))] σ2))))
def B_Model_siteValue_5 (X : Nat → List Int → AMem → Prop) (Q : Int → AMem → Prop) (x1 x2 x3 x10 : Int) (σ : AMem) : Prop :=
  T_Model_siteAddress [9790, x1, x2, x3] σ (fun r1 σ2 => Q (w64 (x10 - r1)) σ2)
def B_Model_siteValue_6 (X : Nat → List Int → AMem → Prop) (Q : Int → AMem → Prop) (x10 : Int) (σ : AMem) : Prop :=
  Q (w64 (x10 - (σ 9790 87))) σ
def B_Model_siteValue : (Nat → List Int → AMem → Prop) → (Int → AMem → Prop) → Nat → List Int → AMem → Prop := fun X Q j v σ => am_sel [(am_v4 (fun t x1 x2 x3 σ => if t = 9790 then B_Model_siteValue_0 X Q x1 x2 x3 σ else False)), (am_v7 (fun t x1 x2 x3 x5 x7 x8 σ => if t = 9790 then B_Model_siteValue_1 X Q x1 x2 x3 x5 x7 x8 σ else False)), (am_v7 (fun t x1 x2 x3 x5 x7 x8 σ => if t = 9790 then B_Model_siteValue_2 X Q x1 x2 x3 x5 x7 x8 σ else False)), (am_v12 (fun t x1 x2 x3 x5 x8 s0 s1 s2 s3 s4 s5 σ => if t = 9790 then B_Model_siteValue_3 X Q x1 x2 x3 x5 x8 s0 s1 s2 s3 s4 s5 σ else False)), (am_v7 (fun t x1 x2 x3 x5 x8 s0 σ => if t = 9790 then B_Model_siteValue_4 X Q x1 x2 x3 x5 x8 s0 σ else False)), (am_v5 (fun t x1 x2 x3 x10 σ => if t = 9790 then B_Model_siteValue_5 X Q x1 x2 x3 x10 σ else False)), (am_v2 (fun t x10 σ => if t = 9790 then B_Model_siteValue_6 X Q x10 σ else False))] j v σ
def T_Model_siteValue : List Int → AMem → (Int → AMem → Prop) → Prop := am_T B_Model_siteValue
abbrev y_Model_siteValue : MethodName := ⟨"LinkHouseModel", "siteValue", "(III)J"⟩
def a_Model_siteValue : AC := (286, (y_Model_siteValue, prog_10_method_108_code, 12, (Option.some Jvm.ClassFile.FieldType.long)), [2, 0, 0, 0], 1, false, { frames := 11, cells := 0, slots := 0, locals := 347 }, T_Model_siteValue)
set_option maxRecDepth 100000 in
theorem ms_Model_siteValue : am_MSp a_Model_siteValue := am_ms_v 10072 9 10071 111007 8 rfl (by decide +kernel)
abbrev k_Model_siteValue : List AC := [a_Model_object, a_Model_site, a_Model_num, a_Model_isShort, a_Model_symbolAddress, a_Model_siteAddress, a_Model_shortKind, a_Model_isOfStrings, a_Model_where, a_Model_value, a_Model_byteAddress, a_Model_isSlotted, a_Model_slotOf]
set_option maxRecDepth 100000 in
theorem s_Model_siteValue : (am_chkR { frames := 11, cells := 0, slots := 0, locals := 347 } k_Model_siteValue && am_chkN c_Model_siteValue { frames := 11, cells := 0, slots := 0, locals := 347 } && c_Model_siteValue.all (am_chk "LinkHouseModel" prog_10_method_108_code 12 (Option.some Jvm.ClassFile.FieldType.long) k_Model_siteValue) && c_Model_siteValue.all (am_chkL m_Model_siteValue) && decide (m_Model_siteValue[0]? = some (0, am_argp 0 [2, 0, 0, 0], [])) && decide (am_argn [2, 0, 0, 0] ≤ 12)) = true := by decide +kernel
set_option maxHeartbeats 150000 in
set_option maxRecDepth 100000 in
theorem h_Model_siteValue : ∀ X Q j v σ, B_Model_siteValue X Q j v σ → am_at GR k_Model_siteValue c_Model_siteValue m_Model_siteValue X Q 164 j v σ := fun X Q => am_sel_all (P := fun j v σ => am_at GR k_Model_siteValue c_Model_siteValue m_Model_siteValue X Q 164 j v σ) (⟨(am_v4_of (fun t x1 x2 x3 σ h => am_tk (fun e => by subst e; exact fun h => h) h)), ⟨(am_v7_of (fun t x1 x2 x3 x5 x7 x8 σ h => am_tk (fun e => by subst e; exact fun h => h) h)), ⟨(am_v7_of (fun t x1 x2 x3 x5 x7 x8 σ h => am_tk (fun e => by subst e; exact fun h => h) h)), ⟨(am_v12_of (fun t x1 x2 x3 x5 x8 s0 s1 s2 s3 s4 s5 σ h => am_tk (fun e => by subst e; exact fun h => h) h)), ⟨(am_v7_of (fun t x1 x2 x3 x5 x8 s0 σ h => am_tk (fun e => by subst e; exact fun h => h) h)), ⟨(am_v5_of (fun t x1 x2 x3 x10 σ h => am_tk (fun e => by subst e; exact fun h => h) h)), ⟨(am_v2_of (fun t x10 σ h => am_tk (fun e => by subst e; exact fun h => h) h)), trivial⟩⟩⟩⟩⟩⟩⟩)
set_option maxRecDepth 100000 in
theorem S_Model_siteValue (l : Launch) (w : AW) : am_S l w GR a_Model_siteValue := am_sound (rt := 1) (cal := k_Model_siteValue) 286 y_Model_siteValue prog_10_method_108_code 12 (Option.some Jvm.ClassFile.FieldType.long) [2, 0, 0, 0] false { frames := 11, cells := 0, slots := 0, locals := 347 } B_Model_siteValue "LinkHouseModel" c_Model_siteValue m_Model_siteValue 164 ms_Model_siteValue (by decide +kernel) rfl rfl (am_cal (S_Model_object l w) (am_cal (S_Model_site l w) (am_cal (S_Model_num l w) (am_cal (S_Model_isShort l w) (am_cal (S_Model_symbolAddress l w) (am_cal (S_Model_siteAddress l w) (am_cal (S_Model_shortKind l w) (am_cal (S_Model_isOfStrings l w) (am_cal (S_Model_where l w) (am_cal (S_Model_value l w) (am_cal (S_Model_byteAddress l w) (am_cal (S_Model_isSlotted l w) (am_cal (S_Model_slotOf l w) (fun _ h => absurd h List.not_mem_nil)))))))))))))) s_Model_siteValue h_Model_siteValue
set_option maxRecDepth 100000 in
theorem of_Model_siteValue {Q : Int → AMem → Prop} {x1 x2 x3 : Int} {σ : AMem} (h : ∀ X : Nat → List Int → AMem → Prop, (∀ (x1 x2 x3 : Int) (σ : AMem), B_Model_siteValue_0 X Q x1 x2 x3 σ → X 0 [9790, x1, x2, x3] σ) → (∀ (x1 x2 x3 x5 x7 x8 : Int) (σ : AMem), B_Model_siteValue_1 X Q x1 x2 x3 x5 x7 x8 σ → X 1 [9790, x1, x2, x3, x5, x7, x8] σ) → (∀ (x1 x2 x3 x5 x7 x8 : Int) (σ : AMem), B_Model_siteValue_2 X Q x1 x2 x3 x5 x7 x8 σ → X 2 [9790, x1, x2, x3, x5, x7, x8] σ) → (∀ (x1 x2 x3 x5 x8 s0 s1 s2 s3 s4 s5 : Int) (σ : AMem), B_Model_siteValue_3 X Q x1 x2 x3 x5 x8 s0 s1 s2 s3 s4 s5 σ → X 3 [9790, x1, x2, x3, x5, x8, s0, s1, s2, s3, s4, s5] σ) → (∀ (x1 x2 x3 x5 x8 s0 : Int) (σ : AMem), B_Model_siteValue_4 X Q x1 x2 x3 x5 x8 s0 σ → X 4 [9790, x1, x2, x3, x5, x8, s0] σ) → (∀ (x1 x2 x3 x10 : Int) (σ : AMem), B_Model_siteValue_5 X Q x1 x2 x3 x10 σ → X 5 [9790, x1, x2, x3, x10] σ) → (∀ (x10 : Int) (σ : AMem), B_Model_siteValue_6 X Q x10 σ → X 6 [9790, x10] σ) → X 0 [9790, x1, x2, x3] σ) : T_Model_siteValue [9790, x1, x2, x3] σ Q := fun X hX => h X (fun x1 x2 x3 σ h => hX 0 [9790, x1, x2, x3] σ h) (fun x1 x2 x3 x5 x7 x8 σ h => hX 1 [9790, x1, x2, x3, x5, x7, x8] σ h) (fun x1 x2 x3 x5 x7 x8 σ h => hX 2 [9790, x1, x2, x3, x5, x7, x8] σ h) (fun x1 x2 x3 x5 x8 s0 s1 s2 s3 s4 s5 σ h => hX 3 [9790, x1, x2, x3, x5, x8, s0, s1, s2, s3, s4, s5] σ h) (fun x1 x2 x3 x5 x8 s0 σ h => hX 4 [9790, x1, x2, x3, x5, x8, s0] σ h) (fun x1 x2 x3 x10 σ h => hX 5 [9790, x1, x2, x3, x10] σ h) (fun x10 σ h => hX 6 [9790, x10] σ h)
def c_Model_put : List aE := [(0, 1, .iconst 0, 1, 0, 0, []), (1, 0, .istore 5, 2, 0, 0, []), (3, 2, .iload 5, 2, 0, 0, []), (5, 0, .iload 4, 2, 0, 0, []), (7, 0, .if_icmp .ge 27, 3, 0, 0, []), (10, 0, .aload_n 0, 1, 0, 0, []), (11, 0, .getfield 14, 3, 8, 3, [2, 0, 6192]), (14, 0, .iload_n 1, 1, 0, 0, []), (15, 0, .iload 5, 2, 0, 0, []), (17, 0, .iadd, 1, 0, 0, []), (18, 0, .lload_n 2, 1, 0, 0, []), (19, 0, .bipush 8, 2, 0, 0, []), (21, 0, .iload 5, 2, 0, 0, []), (23, 0, .imul, 1, 0, 0, []), (24, 0, .lshr, 1, 0, 0, []), (25, 0, .l2i, 1, 0, 0, []), (26, 0, .i2b, 1, 0, 0, []), (27, 0, .bastore, 1, 2, 0, []), (28, 0, .iinc 5 1, 3, 0, 0, []), (31, 0, .goto (-28), 3, 0, 0, []), (34, 0, .return_, 1, 0, 0, [])]
def m_Model_put : List aT := [(0, [(0, 2), (1, 0), (2, 1), (4, 0)], []), (3, [(0, 2), (1, 0), (2, 1), (4, 0), (5, 0)], [])]
def B_Model_put_0 (X : Nat → List Int → AMem → Prop) (Q : Int → AMem → Prop) (x1 x2 x4 : Int) (σ : AMem) : Prop :=
  X 1 [9790, x1, x2, x4, 0] σ
def B_Model_put_1 (X : Nat → List Int → AMem → Prop) (Q : Int → AMem → Prop) (x1 x2 x4 x5 : Int) (σ : AMem) : Prop :=
  (if x5 < x4 then
  am_r32 (x1 + x5) ∧ am_r32 (8 * x5) ∧ 0 ≤ (x1 + x5) ∧ (x1 + x5) < 65536 ∧ am_let (am_upd σ 9792 (x1 + x5) (w8 (w8 (w32 (l_shr x2 (8 * x5)))))) (fun σ1 => am_r32 (x5 + 1) ∧ X 1 [9790, x1, x2, x4, (x5 + 1)] σ1)
  else
  Q 0 σ)
def B_Model_put : (Nat → List Int → AMem → Prop) → (Int → AMem → Prop) → Nat → List Int → AMem → Prop := fun X Q j v σ => am_sel [(am_v4 (fun t x1 x2 x4 σ => if t = 9790 then B_Model_put_0 X Q x1 x2 x4 σ else False)), (am_v5 (fun t x1 x2 x4 x5 σ => if t = 9790 then B_Model_put_1 X Q x1 x2 x4 x5 σ else False))] j v σ
def T_Model_put : List Int → AMem → (Int → AMem → Prop) → Prop := am_T B_Model_put
abbrev y_Model_put : MethodName := ⟨"LinkHouseModel", "put", "(IJI)V"⟩
def a_Model_put : AC := (287, (y_Model_put, prog_10_method_113_code, 6, (Option.none : Option Jvm.ClassFile.FieldType)), [2, 0, 1, 0], 3, false, { frames := 0, cells := 0, slots := 0, locals := 0 }, T_Model_put)
set_option maxRecDepth 100000 in
theorem ms_Model_put : am_MSp a_Model_put := am_ms_v 10092 9 10091 111012 8 rfl (by decide +kernel)
abbrev k_Model_put : List AC := []
set_option maxRecDepth 100000 in
theorem s_Model_put : (am_chkR { frames := 0, cells := 0, slots := 0, locals := 0 } k_Model_put && am_chkN c_Model_put { frames := 0, cells := 0, slots := 0, locals := 0 } && c_Model_put.all (am_chk "LinkHouseModel" prog_10_method_113_code 6 (Option.none : Option Jvm.ClassFile.FieldType) k_Model_put) && c_Model_put.all (am_chkL m_Model_put) && decide (m_Model_put[0]? = some (0, am_argp 0 [2, 0, 1, 0], [])) && decide (am_argn [2, 0, 1, 0] ≤ 6)) = true := by decide +kernel
set_option maxHeartbeats 150000 in
set_option maxRecDepth 100000 in
theorem h_Model_put : ∀ X Q j v σ, B_Model_put X Q j v σ → am_at GR k_Model_put c_Model_put m_Model_put X Q 26 j v σ := fun X Q => am_sel_all (P := fun j v σ => am_at GR k_Model_put c_Model_put m_Model_put X Q 26 j v σ) (⟨(am_v4_of (fun t x1 x2 x4 σ h => am_tk (fun e => by subst e; exact fun h => h) h)), ⟨(am_v5_of (fun t x1 x2 x4 x5 σ h => am_tk (fun e => by subst e; exact fun h => h) h)), trivial⟩⟩)
set_option maxRecDepth 100000 in
theorem S_Model_put (l : Launch) (w : AW) : am_S l w GR a_Model_put := am_sound (rt := 3) (cal := k_Model_put) 287 y_Model_put prog_10_method_113_code 6 (Option.none : Option Jvm.ClassFile.FieldType) [2, 0, 1, 0] false { frames := 0, cells := 0, slots := 0, locals := 0 } B_Model_put "LinkHouseModel" c_Model_put m_Model_put 26 ms_Model_put (by decide +kernel) rfl rfl (fun _ h => absurd h List.not_mem_nil) s_Model_put h_Model_put
set_option maxRecDepth 100000 in
theorem of_Model_put {Q : Int → AMem → Prop} {x1 x2 x4 : Int} {σ : AMem} (h : ∀ X : Nat → List Int → AMem → Prop, (∀ (x1 x2 x4 : Int) (σ : AMem), B_Model_put_0 X Q x1 x2 x4 σ → X 0 [9790, x1, x2, x4] σ) → (∀ (x1 x2 x4 x5 : Int) (σ : AMem), B_Model_put_1 X Q x1 x2 x4 x5 σ → X 1 [9790, x1, x2, x4, x5] σ) → X 0 [9790, x1, x2, x4] σ) : T_Model_put [9790, x1, x2, x4] σ Q := fun X hX => h X (fun x1 x2 x4 σ h => hX 0 [9790, x1, x2, x4] σ h) (fun x1 x2 x4 x5 σ h => hX 1 [9790, x1, x2, x4, x5] σ h)
