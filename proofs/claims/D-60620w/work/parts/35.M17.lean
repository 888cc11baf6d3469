/-! methods: printed by gen/all.py -/
def c_Model_boot : List aE := [(0, 1, .aload_n 0, 1, 0, 0, []), (1, 0, .iconst 0, 1, 0, 0, []), (2, 0, .putfield 281, 3, 8, 0, [0, 0, 6189]), (5, 0, .aload_n 0, 1, 0, 0, []), (6, 0, .iload_n 1, 1, 0, 0, []), (7, 0, .ifCond .eq 10, 3, 0, 0, []), (10, 0, .aload_n 0, 1, 0, 0, []), (11, 0, .getfield 284, 3, 8, 2, [0, 0, 6191]), (14, 0, .goto 7, 3, 0, 0, []), (17, 0, .aload_n 0, 1, 0, 0, []), (18, 0, .getfield 519, 3, 8, 4, [0, 0, 6193]), (21, 2, .putfield 916, 3, 8, 101, [0, 0, 7050]), (24, 0, .iconst 0, 1, 0, 0, []), (25, 0, .istore_n 2, 1, 0, 0, []), (26, 3, .iload_n 2, 1, 0, 0, []), (27, 0, .aload_n 0, 1, 0, 0, []), (28, 0, .getfield 916, 3, 8, 101, [0, 0, 7050]), (31, 0, .if_icmp .ge 34, 3, 0, 0, []), (34, 0, .aload_n 0, 1, 0, 0, []), (35, 0, .getfield 218, 3, 8, 99, [2, 0, 7048]), (38, 0, .iload_n 2, 1, 0, 0, []), (39, 0, .iload_n 1, 1, 0, 0, []), (40, 0, .ifCond .eq 12, 3, 0, 0, []), (43, 0, .aload_n 0, 1, 0, 0, []), (44, 0, .getfield 7, 3, 8, 1, [2, 0, 6190]), (47, 0, .iload_n 2, 1, 0, 0, []), (48, 0, .baload, 1, 2, 0, []), (49, 0, .goto 9, 3, 0, 0, []), (52, 0, .aload_n 0, 1, 0, 0, []), (53, 0, .getfield 14, 3, 8, 3, [2, 0, 6192]), (56, 0, .iload_n 2, 1, 0, 0, []), (57, 0, .baload, 1, 2, 0, []), (58, 4, .bastore, 1, 2, 0, []), (59, 0, .iinc 2 1, 3, 0, 0, []), (62, 0, .goto (-36), 3, 0, 0, []), (65, 0, .iload_n 1, 1, 0, 0, []), (66, 0, .ifCond .eq 8, 3, 0, 0, []), (69, 0, .aload_n 0, 1, 0, 0, []), (70, 0, .iconst 0, 1, 0, 0, []), (71, 0, .putfield 284, 3, 8, 2, [0, 0, 6191]), (74, 5, .aload_n 0, 1, 0, 0, []), (75, 0, .aload_n 0, 1, 0, 0, []), (76, 0, .invokevirtual 933, 3, 334, 8, [11021]), (79, 0, .putfield 936, 3, 8, 103, [0, 0, 7052]), (82, 0, .aload_n 0, 1, 0, 0, []), (83, 0, .getfield 936, 3, 8, 103, [0, 0, 7052]), (86, 0, .ifCond .le 8, 3, 0, 0, []), (89, 0, .aload_n 0, 1, 0, 0, []), (90, 0, .getfield 936, 3, 8, 103, [0, 0, 7052]), (93, 0, .ireturn, 1, 0, 0, []), (94, 0, .aload_n 0, 1, 0, 0, []), (95, 0, .aload_n 0, 1, 0, 0, []), (96, 0, .getfield 924, 3, 8, 115, [0, 0, 7064]), (99, 0, .putfield 939, 3, 8, 102, [0, 0, 7051]), (102, 0, .aload_n 0, 1, 0, 0, []), (103, 0, .aload_n 0, 1, 0, 0, []), (104, 0, .bipush 24, 2, 0, 0, []), (106, 0, .bipush 8, 2, 0, 0, []), (108, 0, .invokevirtual 919, 3, 331, 8, [11029]), (111, 0, .putfield 942, 3, 8, 104, [1, 0, 7053]), (114, 0, .iconst 0, 1, 0, 0, []), (115, 0, .istore_n 2, 1, 0, 0, []), (116, 6, .iload_n 2, 1, 0, 0, []), (117, 0, .aload_n 0, 1, 0, 0, []), (118, 0, .getfield 916, 3, 8, 101, [0, 0, 7050]), (121, 0, .if_icmp .ge 21, 3, 0, 0, []), (124, 0, .aload_n 0, 1, 0, 0, []), (125, 0, .getfield 221, 3, 8, 100, [2, 0, 7049]), (128, 0, .iload_n 2, 1, 0, 0, []), (129, 0, .aload_n 0, 1, 0, 0, []), (130, 0, .getfield 218, 3, 8, 99, [2, 0, 7048]), (133, 0, .iload_n 2, 1, 0, 0, []), (134, 0, .baload, 1, 2, 0, []), (135, 0, .bastore, 1, 2, 0, []), (136, 0, .iinc 2 1, 3, 0, 0, []), (139, 0, .goto (-23), 3, 0, 0, []), (142, 0, .aload_n 0, 1, 0, 0, []), (143, 0, .invokevirtual 945, 3, 336, 8, [11038]), (146, 0, .iconst 0, 1, 0, 0, []), (147, 0, .istore_n 2, 1, 0, 0, []), (148, 7, .iload_n 2, 1, 0, 0, []), (149, 0, .aload_n 0, 1, 0, 0, []), (150, 0, .getfield 939, 3, 8, 102, [0, 0, 7051]), (153, 0, .if_icmp .ge 69, 3, 0, 0, []), (156, 0, .aload_n 0, 1, 0, 0, []), (157, 0, .getfield 224, 3, 8, 105, [2, 0, 7054]), (160, 0, .iload_n 2, 1, 0, 0, []), (161, 0, .aload_n 0, 1, 0, 0, []), (162, 0, .getfield 239, 3, 8, 110, [2, 0, 7059]), (165, 0, .iload_n 2, 1, 0, 0, []), (166, 0, .laload, 1, 0, 0, []), (167, 0, .lastore, 1, 0, 0, []), (168, 0, .aload_n 0, 1, 0, 0, []), (169, 0, .getfield 227, 3, 8, 106, [2, 0, 7055]), (172, 0, .iload_n 2, 1, 0, 0, []), (173, 0, .aload_n 0, 1, 0, 0, []), (174, 0, .getfield 242, 3, 8, 111, [2, 0, 7060]), (177, 0, .iload_n 2, 1, 0, 0, []), (178, 0, .laload, 1, 0, 0, []), (179, 0, .lastore, 1, 0, 0, []), (180, 0, .aload_n 0, 1, 0, 0, []), (181, 0, .getfield 230, 3, 8, 107, [2, 0, 7056]), (184, 0, .iload_n 2, 1, 0, 0, []), (185, 0, .aload_n 0, 1, 0, 0, []), (186, 0, .getfield 245, 3, 8, 112, [2, 0, 7061]), (189, 0, .iload_n 2, 1, 0, 0, []), (190, 0, .laload, 1, 0, 0, []), (191, 0, .lastore, 1, 0, 0, []), (192, 0, .aload_n 0, 1, 0, 0, []), (193, 0, .getfield 233, 3, 8, 108, [2, 0, 7057]), (196, 0, .iload_n 2, 1, 0, 0, []), (197, 0, .aload_n 0, 1, 0, 0, []), (198, 0, .getfield 248, 3, 8, 113, [2, 0, 7062]), (201, 0, .iload_n 2, 1, 0, 0, []), (202, 0, .laload, 1, 0, 0, []), (203, 0, .lastore, 1, 0, 0, []), (204, 0, .aload_n 0, 1, 0, 0, []), (205, 0, .getfield 236, 3, 8, 109, [2, 0, 7058]), (208, 0, .iload_n 2, 1, 0, 0, []), (209, 0, .aload_n 0, 1, 0, 0, []), (210, 0, .getfield 251, 3, 8, 114, [2, 0, 7063]), (213, 0, .iload_n 2, 1, 0, 0, []), (214, 0, .laload, 1, 0, 0, []), (215, 0, .lastore, 1, 0, 0, []), (216, 0, .iinc 2 1, 3, 0, 0, []), (219, 0, .goto (-71), 3, 0, 0, []), (222, 0, .iconst 0, 1, 0, 0, []), (223, 0, .ireturn, 1, 0, 0, [])]
def m_Model_boot : List aT := [(0, [(0, 2), (1, 0)], []), (21, [(0, 2), (1, 0)], [0, 2]), (26, [(0, 2), (1, 0), (2, 0)], []), (58, [(0, 2), (1, 0), (2, 0)], [0, 0, 2]), (74, [(0, 2)], []), (116, [(0, 2), (2, 0)], []), (148, [(0, 2), (2, 0)], [])]
def B_Model_boot_0 (X : Nat → List Int → AMem → Prop) (Q : Int → AMem → Prop) (x1 : Int) (σ : AMem) : Prop :=
  am_let (am_upd σ 9790 0 0) (fun σ1 => (if x1 = 0 then
  X 1 [9790, x1, (σ1 9790 4), 9790] σ1
  else
  X 1 [9790, x1, (σ1 9790 2), 9790] σ1))
def B_Model_boot_1 (X : Nat → List Int → AMem → Prop) (Q : Int → AMem → Prop) (x1 s0 s1 : Int) (σ : AMem) : Prop :=
  (if ly_k s1 = 28 then (if ly_fin s1 101 = 0 then am_let (am_upd σ s1 101 s0) (fun σ1 => X 2 [9790, x1, 0] σ1) else False) else False)
def B_Model_boot_2 (X : Nat → List Int → AMem → Prop) (Q : Int → AMem → Prop) (x1 x2 : Int) (σ : AMem) : Prop :=
  (if x2 < (σ 9790 101) then
  (if x1 = 0 then
    0 ≤ x2 ∧ x2 < 65536 ∧ X 3 [9790, x1, x2, (σ 9792 x2), x2, 9857] σ
    else
    0 ≤ x2 ∧ x2 < 8192 ∧ X 3 [9790, x1, x2, (σ 9791 x2), x2, 9857] σ)
  else
  (if x1 = 0 then
    X 4 [9790] σ
    else
    am_let (am_upd σ 9790 2 0) (fun σ1 => X 4 [9790] σ1)))
def B_Model_boot_3 (X : Nat → List Int → AMem → Prop) (Q : Int → AMem → Prop) (x1 x2 s0 s1 s2 : Int) (σ : AMem) : Prop :=
  (if ly_k s2 = 2 then 0 ≤ s1 ∧ s1 < ly_l s2 ∧ am_let (am_upd σ s2 s1 (w8 s0)) (fun σ1 => am_r32 (x2 + 1) ∧ X 2 [9790, x1, (x2 + 1)] σ1) else False)
def B_Model_boot_4 (X : Nat → List Int → AMem → Prop) (Q : Int → AMem → Prop) (σ : AMem) : Prop :=
  T_Model_triedError [9790] σ (fun r1 σ2 => am_let (am_upd σ2 9790 103 r1) (fun σ3 => (if 0 < (σ3 9790 103) then
  Q (σ3 9790 103) σ3
  else
  am_let (am_upd σ3 9790 102 (σ3 9790 115)) (fun σ4 => T_Model_triedNum [9790, 24, 8] σ4 (fun r5 σ6 => am_let (am_upd σ6 9790 104 r5) (fun σ7 => X 5 [9790, 0] σ7))))))
def B_Model_boot_5 (X : Nat → List Int → AMem → Prop) (Q : Int → AMem → Prop) (x2 : Int) (σ : AMem) : Prop :=
  (if x2 < (σ 9790 101) then
  0 ≤ x2 ∧ x2 < 65536 ∧ 0 ≤ x2 ∧ x2 < 65536 ∧ am_let (am_upd σ 9858 x2 (w8 (σ 9857 x2))) (fun σ3 => am_r32 (x2 + 1) ∧ X 5 [9790, (x2 + 1)] σ3)
  else
  T_Model_findMemoryNames [9790] σ (fun r1 σ2 => X 6 [9790, 0] σ2))
def B_Model_boot_6 (X : Nat → List Int → AMem → Prop) (Q : Int → AMem → Prop) (x2 : Int) (σ : AMem) : Prop :=
  (if x2 < (σ 9790 102) then
  0 ≤ x2 ∧ x2 < 8 ∧ 0 ≤ x2 ∧ x2 < 8 ∧ am_let (am_upd σ 9859 x2 (σ 9864 x2)) (fun σ1 => 0 ≤ x2 ∧ x2 < 8 ∧ 0 ≤ x2 ∧ x2 < 8 ∧ am_let (am_upd σ1 9860 x2 (σ1 9865 x2)) (fun σ2 => 0 ≤ x2 ∧ x2 < 8 ∧ 0 ≤ x2 ∧ x2 < 8 ∧ am_let (am_upd σ2 9861 x2 (σ2 9866 x2)) (fun σ3 => 0 ≤ x2 ∧ x2 < 8 ∧ 0 ≤ x2 ∧ x2 < 8 ∧ am_let (am_upd σ3 9862 x2 (σ3 9867 x2)) (fun σ4 => 0 ≤ x2 ∧ x2 < 8 ∧ 0 ≤ x2 ∧ x2 < 8 ∧ am_let (am_upd σ4 9863 x2 (σ4 9868 x2)) (fun σ5 => am_r32 (x2 + 1) ∧ X 6 [9790, (x2 + 1)] σ5)))))
  else
  Q 0 σ)
def B_Model_boot : (Nat → List Int → AMem → Prop) → (Int → AMem → Prop) → Nat → List Int → AMem → Prop := fun X Q j v σ => am_sel [(am_v2 (fun t x1 σ => if t = 9790 then B_Model_boot_0 X Q x1 σ else False)), (am_v4 (fun t x1 s0 s1 σ => if t = 9790 then B_Model_boot_1 X Q x1 s0 s1 σ else False)), (am_v3 (fun t x1 x2 σ => if t = 9790 then B_Model_boot_2 X Q x1 x2 σ else False)), (am_v6 (fun t x1 x2 s0 s1 s2 σ => if t = 9790 then B_Model_boot_3 X Q x1 x2 s0 s1 s2 σ else False)), (am_v1 (fun t σ => if t = 9790 then B_Model_boot_4 X Q σ else False)), (am_v2 (fun t x2 σ => if t = 9790 then B_Model_boot_5 X Q x2 σ else False)), (am_v2 (fun t x2 σ => if t = 9790 then B_Model_boot_6 X Q x2 σ else False))] j v σ
def T_Model_boot : List Int → AMem → (Int → AMem → Prop) → Prop := am_T B_Model_boot
abbrev y_Model_boot : MethodName := ⟨"LinkHouseModel", "boot", "(Z)I"⟩
def a_Model_boot : AC := (337, (y_Model_boot, prog_10_method_157_code, 3, (Option.some Jvm.ClassFile.FieldType.int)), [2, 0], 0, false, { frames := 3, cells := 0, slots := 0, locals := 115 }, T_Model_boot)
set_option maxRecDepth 100000 in
theorem ms_Model_boot : am_MSp a_Model_boot := am_ms_v 11020 9 11018 11019 8 rfl (by decide +kernel)
abbrev k_Model_boot : List AC := [a_Model_triedError, a_Model_triedNum, a_Model_findMemoryNames]
set_option maxRecDepth 100000 in
theorem s_Model_boot : (am_chkR { frames := 3, cells := 0, slots := 0, locals := 115 } k_Model_boot && am_chkN c_Model_boot { frames := 3, cells := 0, slots := 0, locals := 115 } && c_Model_boot.all (am_chk "LinkHouseModel" prog_10_method_157_code 3 (Option.some Jvm.ClassFile.FieldType.int) k_Model_boot) && c_Model_boot.all (am_chkL m_Model_boot) && decide (m_Model_boot[0]? = some (0, am_argp 0 [2, 0], [])) && decide (am_argn [2, 0] ≤ 3)) = true := by decide +kernel
set_option maxHeartbeats 150000 in
set_option maxRecDepth 100000 in
theorem h_Model_boot : ∀ X Q j v σ, B_Model_boot X Q j v σ → am_at GR k_Model_boot c_Model_boot m_Model_boot X Q 133 j v σ := fun X Q => am_sel_all (P := fun j v σ => am_at GR k_Model_boot c_Model_boot m_Model_boot X Q 133 j v σ) (⟨(am_v2_of (fun t x1 σ h => am_tk (fun e => by subst e; exact fun h => h) h)), ⟨(am_v4_of (fun t x1 s0 s1 σ h => am_tk (fun e => by subst e; exact fun h => h) h)), ⟨(am_v3_of (fun t x1 x2 σ h => am_tk (fun e => by subst e; exact fun h => h) h)), ⟨(am_v6_of (fun t x1 x2 s0 s1 s2 σ h => am_tk (fun e => by subst e; exact fun h => h) h)), ⟨(am_v1_of (fun t σ h => am_tk (fun e => by subst e; exact fun h => h) h)), ⟨(am_v2_of (fun t x2 σ h => am_tk (fun e => by subst e; exact fun h => h) h)), ⟨(am_v2_of (fun t x2 σ h => am_tk (fun e => by subst e; exact fun h => h) h)), trivial⟩⟩⟩⟩⟩⟩⟩)
set_option maxRecDepth 100000 in
theorem S_Model_boot (l : Launch) (w : AW) : am_S l w GR a_Model_boot := am_sound (rt := 0) (cal := k_Model_boot) 337 y_Model_boot prog_10_method_157_code 3 (Option.some Jvm.ClassFile.FieldType.int) [2, 0] false { frames := 3, cells := 0, slots := 0, locals := 115 } B_Model_boot "LinkHouseModel" c_Model_boot m_Model_boot 133 ms_Model_boot (by decide +kernel) rfl rfl (am_cal (S_Model_triedError l w) (am_cal (S_Model_triedNum l w) (am_cal (S_Model_findMemoryNames l w) (fun _ h => absurd h List.not_mem_nil)))) s_Model_boot h_Model_boot
set_option maxRecDepth 100000 in
theorem of_Model_boot {Q : Int → AMem → Prop} {x1 : Int} {σ : AMem} (h : ∀ X : Nat → List Int → AMem → Prop, (∀ (x1 : Int) (σ : AMem), B_Model_boot_0 X Q x1 σ → X 0 [9790, x1] σ) → (∀ (x1 s0 s1 : Int) (σ : AMem), B_Model_boot_1 X Q x1 s0 s1 σ → X 1 [9790, x1, s0, s1] σ) → (∀ (x1 x2 : Int) (σ : AMem), B_Model_boot_2 X Q x1 x2 σ → X 2 [9790, x1, x2] σ) → (∀ (x1 x2 s0 s1 s2 : Int) (σ : AMem), B_Model_boot_3 X Q x1 x2 s0 s1 s2 σ → X 3 [9790, x1, x2, s0, s1, s2] σ) → (∀ (σ : AMem), B_Model_boot_4 X Q σ → X 4 [9790] σ) → (∀ (x2 : Int) (σ : AMem), B_Model_boot_5 X Q x2 σ → X 5 [9790, x2] σ) → (∀ (x2 : Int) (σ : AMem), B_Model_boot_6 X Q x2 σ → X 6 [9790, x2] σ) → X 0 [9790, x1] σ) : T_Model_boot [9790, x1] σ Q := fun X hX => h X (fun x1 σ h => hX 0 [9790, x1] σ h) (fun x1 s0 s1 σ h => hX 1 [9790, x1, s0, s1] σ h) (fun x1 x2 σ h => hX 2 [9790, x1, x2] σ h) (fun x1 x2 s0 s1 s2 σ h => hX 3 [9790, x1, x2, s0, s1, s2] σ h) (fun σ h => hX 4 [9790] σ h) (fun x2 σ h => hX 5 [9790, x2] σ h) (fun x2 σ h => hX 6 [9790, x2] σ h)
def c_Model_rowOf : List aE := [(0, 1, .iconst 0, 1, 0, 0, []), (1, 0, .istore_n 3, 1, 0, 0, []), (2, 2, .iload_n 3, 1, 0, 0, []), (3, 0, .aload_n 0, 1, 0, 0, []), (4, 0, .getfield 939, 3, 8, 102, [0, 0, 7051]), (7, 0, .if_icmp .ge 40, 3, 0, 0, []), (10, 0, .lload_n 1, 1, 0, 0, []), (11, 0, .aload_n 0, 1, 0, 0, []), (12, 0, .getfield 230, 3, 8, 107, [2, 0, 7056]), (15, 0, .iload_n 3, 1, 0, 0, []), (16, 0, .laload, 1, 0, 0, []), (17, 0, .lcmp, 1, 0, 0, []), (18, 0, .ifCond .lt 23, 3, 0, 0, []), (21, 0, .lload_n 1, 1, 0, 0, []), (22, 0, .aload_n 0, 1, 0, 0, []), (23, 0, .getfield 230, 3, 8, 107, [2, 0, 7056]), (26, 0, .iload_n 3, 1, 0, 0, []), (27, 0, .laload, 1, 0, 0, []), (28, 0, .aload_n 0, 1, 0, 0, []), (29, 0, .getfield 236, 3, 8, 109, [2, 0, 7058]), (32, 0, .iload_n 3, 1, 0, 0, []), (33, 0, .laload, 1, 0, 0, []), (34, 0, .ladd, 1, 0, 0, []), (35, 0, .lcmp, 1, 0, 0, []), (36, 0, .ifCond .ge 5, 3, 0, 0, []), (39, 0, .iload_n 3, 1, 0, 0, []), (40, 0, .ireturn, 1, 0, 0, []), (41, 3, .iinc 3 1, 3, 0, 0, []), (44, 0, .goto (-42), 3, 0, 0, []), (47, 0, .iconst (-1), 1, 0, 0, []), (48, 0, .ireturn, 1, 0, 0, [])]
def m_Model_rowOf : List aT := [(0, [(0, 2), (1, 1)], []), (2, [(0, 2), (1, 1), (3, 0)], []), (41, [(0, 2), (1, 1), (3, 0)], [])]
def B_Model_rowOf_0 (X : Nat → List Int → AMem → Prop) (Q : Int → AMem → Prop) (x1 : Int) (σ : AMem) : Prop :=
  X 1 [9790, x1, 0] σ
def B_Model_rowOf_1 (X : Nat → List Int → AMem → Prop) (Q : Int → AMem → Prop) (x1 x3 : Int) (σ : AMem) : Prop :=
  (if x3 < (σ 9790 102) then
  0 ≤ x3 ∧ x3 < 8 ∧ (if x1 < (σ 9861 x3) then
    X 2 [9790, x1, x3] σ
    else
    0 ≤ x3 ∧ x3 < 8 ∧ 0 ≤ x3 ∧ x3 < 8 ∧ (if x1 < (w64 ((σ 9861 x3) + (σ 9863 x3))) then
      Q x3 σ
      else
      X 2 [9790, x1, x3] σ))
  else
  Q (-1) σ)
def B_Model_rowOf_2 (X : Nat → List Int → AMem → Prop) (Q : Int → AMem → Prop) (x1 x3 : Int) (σ : AMem) : Prop :=
  am_r32 (x3 + 1) ∧ X 1 [9790, x1, (x3 + 1)] σ
def B_Model_rowOf : (Nat → List Int → AMem → Prop) → (Int → AMem → Prop) → Nat → List Int → AMem → Prop := fun X Q j v σ => am_sel [(am_v2 (fun t x1 σ => if t = 9790 then B_Model_rowOf_0 X Q x1 σ else False)), (am_v3 (fun t x1 x3 σ => if t = 9790 then B_Model_rowOf_1 X Q x1 x3 σ else False)), (am_v3 (fun t x1 x3 σ => if t = 9790 then B_Model_rowOf_2 X Q x1 x3 σ else False))] j v σ
def T_Model_rowOf : List Int → AMem → (Int → AMem → Prop) → Prop := am_T B_Model_rowOf
abbrev y_Model_rowOf : MethodName := ⟨"LinkHouseModel", "rowOf", "(J)I"⟩
def a_Model_rowOf : AC := (338, (y_Model_rowOf, prog_10_method_161_code, 4, (Option.some Jvm.ClassFile.FieldType.int)), [2, 1], 0, false, { frames := 0, cells := 0, slots := 0, locals := 0 }, T_Model_rowOf)
set_option maxRecDepth 100000 in
theorem ms_Model_rowOf : am_MSp a_Model_rowOf := am_ms_v 11053 9 11052 114002 8 rfl (by decide +kernel)
abbrev k_Model_rowOf : List AC := []
set_option maxRecDepth 100000 in
theorem s_Model_rowOf : (am_chkR { frames := 0, cells := 0, slots := 0, locals := 0 } k_Model_rowOf && am_chkN c_Model_rowOf { frames := 0, cells := 0, slots := 0, locals := 0 } && c_Model_rowOf.all (am_chk "LinkHouseModel" prog_10_method_161_code 4 (Option.some Jvm.ClassFile.FieldType.int) k_Model_rowOf) && c_Model_rowOf.all (am_chkL m_Model_rowOf) && decide (m_Model_rowOf[0]? = some (0, am_argp 0 [2, 1], [])) && decide (am_argn [2, 1] ≤ 4)) = true := by decide +kernel
set_option maxHeartbeats 150000 in
set_option maxRecDepth 100000 in
theorem h_Model_rowOf : ∀ X Q j v σ, B_Model_rowOf X Q j v σ → am_at GR k_Model_rowOf c_Model_rowOf m_Model_rowOf X Q 36 j v σ := fun X Q => am_sel_all (P := fun j v σ => am_at GR k_Model_rowOf c_Model_rowOf m_Model_rowOf X Q 36 j v σ) (⟨(am_v2_of (fun t x1 σ h => am_tk (fun e => by subst e; exact fun h => h) h)), ⟨(am_v3_of (fun t x1 x3 σ h => am_tk (fun e => by subst e; exact fun h => h) h)), ⟨(am_v3_of (fun t x1 x3 σ h => am_tk (fun e => by subst e; exact fun h => h) h)), trivial⟩⟩⟩)
set_option maxRecDepth 100000 in
theorem S_Model_rowOf (l : Launch) (w : AW) : am_S l w GR a_Model_rowOf := am_sound (rt := 0) (cal := k_Model_rowOf) 338 y_Model_rowOf prog_10_method_161_code 4 (Option.some Jvm.ClassFile.FieldType.int) [2, 1] false { frames := 0, cells := 0, slots := 0, locals := 0 } B_Model_rowOf "LinkHouseModel" c_Model_rowOf m_Model_rowOf 36 ms_Model_rowOf (by decide +kernel) rfl rfl (fun _ h => absurd h List.not_mem_nil) s_Model_rowOf h_Model_rowOf
set_option maxRecDepth 100000 in
theorem of_Model_rowOf {Q : Int → AMem → Prop} {x1 : Int} {σ : AMem} (h : ∀ X : Nat → List Int → AMem → Prop, (∀ (x1 : Int) (σ : AMem), B_Model_rowOf_0 X Q x1 σ → X 0 [9790, x1] σ) → (∀ (x1 x3 : Int) (σ : AMem), B_Model_rowOf_1 X Q x1 x3 σ → X 1 [9790, x1, x3] σ) → (∀ (x1 x3 : Int) (σ : AMem), B_Model_rowOf_2 X Q x1 x3 σ → X 2 [9790, x1, x3] σ) → X 0 [9790, x1] σ) : T_Model_rowOf [9790, x1] σ Q := fun X hX => h X (fun x1 σ h => hX 0 [9790, x1] σ h) (fun x1 x3 σ h => hX 1 [9790, x1, x3] σ h) (fun x1 x3 σ h => hX 2 [9790, x1, x3] σ h)
def c_Model_near : List aE := [(0, 1, .aload_n 0, 1, 0, 0, []), (1, 0, .iconst 0, 1, 0, 0, []), (2, 0, .putfield 281, 3, 8, 0, [0, 0, 6189]), (5, 0, .iconst (-1), 1, 0, 0, []), (6, 0, .istore_n 3, 1, 0, 0, []), (7, 0, .iconst 0, 1, 0, 0, []), (8, 0, .istore 4, 2, 0, 0, []), (10, 2, .iload 4, 2, 0, 0, []), (12, 0, .aload_n 0, 1, 0, 0, []), (13, 0, .getfield 948, 3, 8, 44, [0, 0, 6233]), (16, 0, .if_icmp .ge 73, 3, 0, 0, []), (19, 0, .aload_n 0, 1, 0, 0, []), (20, 0, .getfield 121, 3, 8, 47, [2, 0, 6236]), (23, 0, .iload 4, 2, 0, 0, []), (25, 0, .laload, 1, 0, 0, []), (26, 0, .lconst 0, 1, 0, 0, []), (27, 0, .lcmp, 1, 0, 0, []), (28, 0, .ifCond .lt 19, 3, 0, 0, []), (31, 0, .aload_n 0, 1, 0, 0, []), (32, 0, .getfield 121, 3, 8, 47, [2, 0, 6236]), (35, 0, .iload 4, 2, 0, 0, []), (37, 0, .laload, 1, 0, 0, []), (38, 0, .lload_n 1, 1, 0, 0, []), (39, 0, .lcmp, 1, 0, 0, []), (40, 0, .ifCond .gt 7, 3, 0, 0, []), (43, 0, .iconst 1, 1, 0, 0, []), (44, 0, .goto 4, 3, 0, 0, []), (47, 3, .iconst 0, 1, 0, 0, []), (48, 4, .istore 5, 2, 0, 0, []), (50, 0, .iload 5, 2, 0, 0, []), (52, 0, .ifCond .eq 29, 3, 0, 0, []), (55, 0, .iload_n 3, 1, 0, 0, []), (56, 0, .ifCond .lt 20, 3, 0, 0, []), (59, 0, .aload_n 0, 1, 0, 0, []), (60, 0, .getfield 121, 3, 8, 47, [2, 0, 6236]), (63, 0, .iload 4, 2, 0, 0, []), (65, 0, .laload, 1, 0, 0, []), (66, 0, .aload_n 0, 1, 0, 0, []), (67, 0, .getfield 121, 3, 8, 47, [2, 0, 6236]), (70, 0, .iload_n 3, 1, 0, 0, []), (71, 0, .laload, 1, 0, 0, []), (72, 0, .lcmp, 1, 0, 0, []), (73, 0, .ifCond .le 8, 3, 0, 0, []), (76, 5, .iload 4, 2, 0, 0, []), (78, 0, .goto 4, 3, 0, 0, []), (81, 6, .iload_n 3, 1, 0, 0, []), (82, 7, .istore_n 3, 1, 0, 0, []), (83, 0, .iinc 4 1, 3, 0, 0, []), (86, 0, .goto (-76), 3, 0, 0, []), (89, 0, .aload_n 0, 1, 0, 0, []), (90, 0, .lload_n 1, 1, 0, 0, []), (91, 0, .invokevirtual 955, 3, 338, 8, [11050]), (94, 0, .ifCond .lt 7, 3, 0, 0, []), (97, 0, .iload_n 3, 1, 0, 0, []), (98, 0, .ifCond .ge 7, 3, 0, 0, []), (101, 0, .ldc2_w 684, 3, 1, 1, [10043]), (104, 0, .lreturn, 1, 0, 0, []), (105, 0, .aload_n 0, 1, 0, 0, []), (106, 0, .aload_n 0, 1, 0, 0, []), (107, 0, .getfield 221, 3, 8, 100, [2, 0, 7049]), (110, 0, .aload_n 0, 1, 0, 0, []), (111, 0, .getfield 115, 3, 8, 45, [2, 0, 6234]), (114, 0, .iload_n 3, 1, 0, 0, []), (115, 0, .iaload, 1, 0, 0, []), (116, 0, .aload_n 0, 1, 0, 0, []), (117, 0, .getfield 118, 3, 8, 46, [2, 0, 6235]), (120, 0, .iload_n 3, 1, 0, 0, []), (121, 0, .iaload, 1, 0, 0, []), (122, 0, .invokevirtual 544, 3, 243, 8, [9148]), (125, 0, .lload_n 1, 1, 0, 0, []), (126, 0, .aload_n 0, 1, 0, 0, []), (127, 0, .getfield 121, 3, 8, 47, [2, 0, 6236]), (130, 0, .iload_n 3, 1, 0, 0, []), (131, 0, .laload, 1, 0, 0, []), (132, 0, .lsub, 1, 0, 0, []), (133, 0, .lreturn, 1, 0, 0, [])]
def m_Model_near : List aT := [(0, [(0, 2), (1, 1)], []), (10, [(0, 2), (1, 1), (3, 0), (4, 0)], []), (47, [(0, 2), (1, 1), (3, 0), (4, 0)], []), (48, [(0, 2), (1, 1), (3, 0), (4, 0)], [0]), (76, [(0, 2), (1, 1), (4, 0)], []), (81, [(0, 2), (1, 1), (3, 0), (4, 0)], []), (82, [(0, 2), (1, 1), (4, 0)], [0])]
def B_Model_near_0 (X : Nat → List Int → AMem → Prop) (Q : Int → AMem → Prop) (x1 : Int) (σ : AMem) : Prop :=
  am_let (am_upd σ 9790 0 0) (fun σ1 => X 1 [9790, x1, (-1), 0] σ1)
def B_Model_near_1 (X : Nat → List Int → AMem → Prop) (Q : Int → AMem → Prop) (x1 x3 x4 : Int) (σ : AMem) : Prop :=
  (if x4 < (σ 9790 44) then
  0 ≤ x4 ∧ x4 < 2800 ∧ (if (σ 9825 x4) < 0 then
    X 2 [9790, x1, x3, x4] σ
    else
    0 ≤ x4 ∧ x4 < 2800 ∧ (if x1 < (σ 9825 x4) then
      X 2 [9790, x1, x3, x4] σ
      else
      X 3 [9790, x1, x3, x4, 1] σ))
  else
  T_Model_rowOf [9790, x1] σ (fun r1 σ2 => (if r1 < 0 then
    Q (-1) σ2
    else
    (if x3 < 0 then
      Q (-1) σ2
      else
      0 ≤ x3 ∧ x3 < 2800 ∧ 0 ≤ x3 ∧ x3 < 2800 ∧ T_Model_say [9790, 9858, (σ2 9823 x3), (σ2 9824 x3)] σ2 (fun r3 σ4 => 0 ≤ x3 ∧ x3 < 2800 ∧ Q (w64 (x1 - (σ4 9825 x3))) σ4)))))
def B_Model_near_2 (X : Nat → List Int → AMem → Prop) (Q : Int → AMem → Prop) (x1 x3 x4 : Int) (σ : AMem) : Prop :=
  X 3 [9790, x1, x3, x4, 0] σ
def B_Model_near_3 (X : Nat → List Int → AMem → Prop) (Q : Int → AMem → Prop) (x1 x3 x4 s0 : Int) (σ : AMem) : Prop :=
  (if s0 = 0 then
  X 5 [9790, x1, x3, x4] σ
  else
  (if x3 < 0 then
    X 4 [9790, x1, x4] σ
    else
    0 ≤ x4 ∧ x4 < 2800 ∧ 0 ≤ x3 ∧ x3 < 2800 ∧ (if (σ 9825 x3) < (σ 9825 x4) then
      X 4 [9790, x1, x4] σ
      else
      X 5 [9790, x1, x3, x4] σ)))
def B_Model_near_4 (X : Nat → List Int → AMem → Prop) (Q : Int → AMem → Prop) (x1 x4 : Int) (σ : AMem) : Prop :=
  X 6 [9790, x1, x4, x4] σ
def B_Model_near_5 (X : Nat → List Int → AMem → Prop) (Q : Int → AMem → Prop) (x1 x3 x4 : Int) (σ : AMem) : Prop :=
  X 6 [9790, x1, x4, x3] σ
def B_Model_near_6 (X : Nat → List Int → AMem → Prop) (Q : Int → AMem → Prop) (x1 x4 s0 : Int) (σ : AMem) : Prop :=
  am_r32 (x4 + 1) ∧ X 1 [9790, x1, s0, (x4 + 1)] σ
def B_Model_near : (Nat → List Int → AMem → Prop) → (Int → AMem → Prop) → Nat → List Int → AMem → Prop := fun X Q j v σ => am_sel [(am_v2 (fun t x1 σ => if t = 9790 then B_Model_near_0 X Q x1 σ else False)), (am_v4 (fun t x1 x3 x4 σ => if t = 9790 then B_Model_near_1 X Q x1 x3 x4 σ else False)), (am_v4 (fun t x1 x3 x4 σ => if t = 9790 then B_Model_near_2 X Q x1 x3 x4 σ else False)), (am_v5 (fun t x1 x3 x4 s0 σ => if t = 9790 then B_Model_near_3 X Q x1 x3 x4 s0 σ else False)), (am_v3 (fun t x1 x4 σ => if t = 9790 then B_Model_near_4 X Q x1 x4 σ else False)), (am_v4 (fun t x1 x3 x4 σ => if t = 9790 then B_Model_near_5 X Q x1 x3 x4 σ else False)), (am_v4 (fun t x1 x4 s0 σ => if t = 9790 then B_Model_near_6 X Q x1 x4 s0 σ else False))] j v σ
def T_Model_near : List Int → AMem → (Int → AMem → Prop) → Prop := am_T B_Model_near
abbrev y_Model_near : MethodName := ⟨"LinkHouseModel", "near", "(J)J"⟩
def a_Model_near : AC := (339, (y_Model_near, prog_10_method_160_code, 6, (Option.some Jvm.ClassFile.FieldType.long)), [2, 1], 1, false, { frames := 1, cells := 0, slots := 0, locals := 32 }, T_Model_near)
set_option maxRecDepth 100000 in
theorem ms_Model_near : am_MSp a_Model_near := am_ms_v 11049 9 11047 11048 8 rfl (by decide +kernel)
abbrev k_Model_near : List AC := [a_Model_rowOf, a_Model_say]
set_option maxRecDepth 100000 in
theorem s_Model_near : (am_chkR { frames := 1, cells := 0, slots := 0, locals := 32 } k_Model_near && am_chkN c_Model_near { frames := 1, cells := 0, slots := 0, locals := 32 } && c_Model_near.all (am_chk "LinkHouseModel" prog_10_method_160_code 6 (Option.some Jvm.ClassFile.FieldType.long) k_Model_near) && c_Model_near.all (am_chkL m_Model_near) && decide (m_Model_near[0]? = some (0, am_argp 0 [2, 1], [])) && decide (am_argn [2, 1] ≤ 6)) = true := by decide +kernel
set_option maxHeartbeats 150000 in
set_option maxRecDepth 100000 in
theorem h_Model_near : ∀ X Q j v σ, B_Model_near X Q j v σ → am_at GR k_Model_near c_Model_near m_Model_near X Q 81 j v σ := fun X Q => am_sel_all (P := fun j v σ => am_at GR k_Model_near c_Model_near m_Model_near X Q 81 j v σ) (⟨(am_v2_of (fun t x1 σ h => am_tk (fun e => by subst e; exact fun h => h) h)), ⟨(am_v4_of (fun t x1 x3 x4 σ h => am_tk (fun e => by subst e; exact fun h => h) h)), ⟨(am_v4_of (fun t x1 x3 x4 σ h => am_tk (fun e => by subst e; exact fun h => h) h)), ⟨(am_v5_of (fun t x1 x3 x4 s0 σ h => am_tk (fun e => by subst e; exact fun h => h) h)), ⟨(am_v3_of (fun t x1 x4 σ h => am_tk (fun e => by subst e; exact fun h => h) h)), ⟨(am_v4_of (fun t x1 x3 x4 σ h => am_tk (fun e => by subst e; exact fun h => h) h)), ⟨(am_v4_of (fun t x1 x4 s0 σ h => am_tk (fun e => by subst e; exact fun h => h) h)), trivial⟩⟩⟩⟩⟩⟩⟩)
set_option maxRecDepth 100000 in
theorem S_Model_near (l : Launch) (w : AW) : am_S l w GR a_Model_near := am_sound (rt := 1) (cal := k_Model_near) 339 y_Model_near prog_10_method_160_code 6 (Option.some Jvm.ClassFile.FieldType.long) [2, 1] false { frames := 1, cells := 0, slots := 0, locals := 32 } B_Model_near "LinkHouseModel" c_Model_near m_Model_near 81 ms_Model_near (by decide +kernel) rfl rfl (am_cal (S_Model_rowOf l w) (am_cal (S_Model_say l w) (fun _ h => absurd h List.not_mem_nil))) s_Model_near h_Model_near
set_option maxRecDepth 100000 in
theorem of_Model_near {Q : Int → AMem → Prop} {x1 : Int} {σ : AMem} (h : ∀ X : Nat → List Int → AMem → Prop, (∀ (x1 : Int) (σ : AMem), B_Model_near_0 X Q x1 σ → X 0 [9790, x1] σ) → (∀ (x1 x3 x4 : Int) (σ : AMem), B_Model_near_1 X Q x1 x3 x4 σ → X 1 [9790, x1, x3, x4] σ) → (∀ (x1 x3 x4 : Int) (σ : AMem), B_Model_near_2 X Q x1 x3 x4 σ → X 2 [9790, x1, x3, x4] σ) → (∀ (x1 x3 x4 s0 : Int) (σ : AMem), B_Model_near_3 X Q x1 x3 x4 s0 σ → X 3 [9790, x1, x3, x4, s0] σ) → (∀ (x1 x4 : Int) (σ : AMem), B_Model_near_4 X Q x1 x4 σ → X 4 [9790, x1, x4] σ) → (∀ (x1 x3 x4 : Int) (σ : AMem), B_Model_near_5 X Q x1 x3 x4 σ → X 5 [9790, x1, x3, x4] σ) → (∀ (x1 x4 s0 : Int) (σ : AMem), B_Model_near_6 X Q x1 x4 s0 σ → X 6 [9790, x1, x4, s0] σ) → X 0 [9790, x1] σ) : T_Model_near [9790, x1] σ Q := fun X hX => h X (fun x1 σ h => hX 0 [9790, x1] σ h) (fun x1 x3 x4 σ h => hX 1 [9790, x1, x3, x4] σ h) (fun x1 x3 x4 σ h => hX 2 [9790, x1, x3, x4] σ h) (fun x1 x3 x4 s0 σ h => hX 3 [9790, x1, x3, x4, s0] σ h) (fun x1 x4 σ h => hX 4 [9790, x1, x4] σ h) (fun x1 x3 x4 σ h => hX 5 [9790, x1, x3, x4] σ h) (fun x1 x4 s0 σ h => hX 6 [9790, x1, x4, s0] σ h)
def c_Model_peek : List aE := [(0, 1, .aload_n 0, 1, 0, 0, []), (1, 0, .iconst 0, 1, 0, 0, []), (2, 0, .putfield 281, 3, 8, 0, [0, 0, 6189]), (5, 0, .aload_n 0, 1, 0, 0, []), (6, 0, .lload_n 1, 1, 0, 0, []), (7, 0, .invokevirtual 955, 3, 338, 8, [11050]), (10, 0, .istore_n 3, 1, 0, 0, []), (11, 0, .iload_n 3, 1, 0, 0, []), (12, 0, .ifCond .ge 5, 3, 0, 0, []), (15, 0, .iconst (-1), 1, 0, 0, []), (16, 0, .ireturn, 1, 0, 0, []), (17, 0, .lload_n 1, 1, 0, 0, []), (18, 0, .aload_n 0, 1, 0, 0, []), (19, 0, .getfield 230, 3, 8, 107, [2, 0, 7056]), (22, 0, .iload_n 3, 1, 0, 0, []), (23, 0, .laload, 1, 0, 0, []), (24, 0, .lsub, 1, 0, 0, []), (25, 0, .lstore 4, 2, 0, 0, []), (27, 0, .lload 4, 2, 0, 0, []), (29, 0, .aload_n 0, 1, 0, 0, []), (30, 0, .getfield 233, 3, 8, 108, [2, 0, 7057]), (33, 0, .iload_n 3, 1, 0, 0, []), (34, 0, .laload, 1, 0, 0, []), (35, 0, .lcmp, 1, 0, 0, []), (36, 0, .ifCond .ge 25, 3, 0, 0, []), (39, 0, .aload_n 0, 1, 0, 0, []), (40, 0, .getfield 221, 3, 8, 100, [2, 0, 7049]), (43, 0, .aload_n 0, 1, 0, 0, []), (44, 0, .getfield 227, 3, 8, 106, [2, 0, 7055]), (47, 0, .iload_n 3, 1, 0, 0, []), (48, 0, .laload, 1, 0, 0, []), (49, 0, .lload 4, 2, 0, 0, []), (51, 0, .ladd, 1, 0, 0, []), (52, 0, .l2i, 1, 0, 0, []), (53, 0, .baload, 1, 2, 0, []), (54, 0, .sipush 255, 3, 0, 0, []), (57, 0, .iand, 1, 0, 0, []), (58, 0, .goto 4, 3, 0, 0, []), (61, 0, .iconst 0, 1, 0, 0, []), (62, 0, .ireturn, 1, 0, 0, [])]
def m_Model_peek : List aT := [(0, [(0, 2), (1, 1)], [])]
def B_Model_peek_0 (X : Nat → List Int → AMem → Prop) (Q : Int → AMem → Prop) (x1 : Int) (σ : AMem) : Prop :=
  am_let (am_upd σ 9790 0 0) (fun σ1 => T_Model_rowOf [9790, x1] σ1 (fun r2 σ3 => (if r2 < 0 then
  Q (-1) σ3
  else
  0 ≤ r2 ∧ r2 < 8 ∧ 0 ≤ r2 ∧ r2 < 8 ∧ (if (w64 (x1 - (σ3 9861 r2))) < (σ3 9862 r2) then
    0 ≤ r2 ∧ r2 < 8 ∧ 0 ≤ (w32 (w64 ((σ3 9860 r2) + (w64 (x1 - (σ3 9861 r2)))))) ∧ (w32 (w64 ((σ3 9860 r2) + (w64 (x1 - (σ3 9861 r2)))))) < 65536 ∧ Q (i_and (σ3 9858 (w32 (w64 ((σ3 9860 r2) + (w64 (x1 - (σ3 9861 r2))))))) 255) σ3
    else
    Q 0 σ3))))
def B_Model_peek : (Nat → List Int → AMem → Prop) → (Int → AMem → Prop) → Nat → List Int → AMem → Prop := fun X Q j v σ => am_sel [(am_v2 (fun t x1 σ => if t = 9790 then B_Model_peek_0 X Q x1 σ else False))] j v σ
def T_Model_peek : List Int → AMem → (Int → AMem → Prop) → Prop := am_T B_Model_peek
abbrev y_Model_peek : MethodName := ⟨"LinkHouseModel", "peek", "(J)I"⟩
def a_Model_peek : AC := (340, (y_Model_peek, prog_10_method_162_code, 6, (Option.some Jvm.ClassFile.FieldType.int)), [2, 1], 0, false, { frames := 1, cells := 0, slots := 0, locals := 31 }, T_Model_peek)
set_option maxRecDepth 100000 in
theorem ms_Model_peek : am_MSp a_Model_peek := am_ms_v 11057 9 11055 11056 8 rfl (by decide +kernel)
abbrev k_Model_peek : List AC := [a_Model_rowOf]
set_option maxRecDepth 100000 in
theorem s_Model_peek : (am_chkR { frames := 1, cells := 0, slots := 0, locals := 31 } k_Model_peek && am_chkN c_Model_peek { frames := 1, cells := 0, slots := 0, locals := 31 } && c_Model_peek.all (am_chk "LinkHouseModel" prog_10_method_162_code 6 (Option.some Jvm.ClassFile.FieldType.int) k_Model_peek) && c_Model_peek.all (am_chkL m_Model_peek) && decide (m_Model_peek[0]? = some (0, am_argp 0 [2, 1], [])) && decide (am_argn [2, 1] ≤ 6)) = true := by decide +kernel
set_option maxHeartbeats 150000 in
set_option maxRecDepth 100000 in
theorem h_Model_peek : ∀ X Q j v σ, B_Model_peek X Q j v σ → am_at GR k_Model_peek c_Model_peek m_Model_peek X Q 45 j v σ := fun X Q => am_sel_all (P := fun j v σ => am_at GR k_Model_peek c_Model_peek m_Model_peek X Q 45 j v σ) (⟨(am_v2_of (fun t x1 σ h => am_tk (fun e => by subst e; exact fun h => h) h)), trivial⟩)
set_option maxRecDepth 100000 in
theorem S_Model_peek (l : Launch) (w : AW) : am_S l w GR a_Model_peek := am_sound (rt := 0) (cal := k_Model_peek) 340 y_Model_peek prog_10_method_162_code 6 (Option.some Jvm.ClassFile.FieldType.int) [2, 1] false { frames := 1, cells := 0, slots := 0, locals := 31 } B_Model_peek "LinkHouseModel" c_Model_peek m_Model_peek 45 ms_Model_peek (by decide +kernel) rfl rfl (am_cal (S_Model_rowOf l w) (fun _ h => absurd h List.not_mem_nil)) s_Model_peek h_Model_peek
set_option maxRecDepth 100000 in
theorem of_Model_peek {Q : Int → AMem → Prop} {x1 : Int} {σ : AMem} (h : ∀ X : Nat → List Int → AMem → Prop, (∀ (x1 : Int) (σ : AMem), B_Model_peek_0 X Q x1 σ → X 0 [9790, x1] σ) → X 0 [9790, x1] σ) : T_Model_peek [9790, x1] σ Q := fun X hX => h X (fun x1 σ h => hX 0 [9790, x1] σ h)
set_option maxRecDepth 100000 in
theorem iff_Model_peek {Q : Int → AMem → Prop} {X : Nat → List Int → AMem → Prop} {x1 : Int} {σ : AMem} : T_Model_peek [9790, x1] σ Q ↔ B_Model_peek_0 X Q x1 σ := ⟨fun h => h (fun j v σ => B_Model_peek X Q j v σ) (fun _ _ _ q => q), fun h _ hX => hX 0 _ _ h⟩
def c_Model_flags : List aE := [(0, 1, .aload_n 0, 1, 0, 0, []), (1, 0, .iconst 0, 1, 0, 0, []), (2, 0, .putfield 281, 3, 8, 0, [0, 0, 6189]), (5, 0, .aload_n 0, 1, 0, 0, []), (6, 0, .lload_n 1, 1, 0, 0, []), (7, 0, .invokevirtual 955, 3, 338, 8, [11050]), (10, 0, .istore_n 3, 1, 0, 0, []), (11, 0, .iload_n 3, 1, 0, 0, []), (12, 0, .ifCond .ge 9, 3, 0, 0, []), (15, 0, .ldc2_w 684, 3, 1, 1, [10043]), (18, 0, .goto 9, 3, 0, 0, []), (21, 0, .aload_n 0, 1, 0, 0, []), (22, 0, .getfield 224, 3, 8, 105, [2, 0, 7054]), (25, 0, .iload_n 3, 1, 0, 0, []), (26, 0, .laload, 1, 0, 0, []), (27, 0, .lreturn, 1, 0, 0, [])]
def m_Model_flags : List aT := [(0, [(0, 2), (1, 1)], [])]
def B_Model_flags_0 (X : Nat → List Int → AMem → Prop) (Q : Int → AMem → Prop) (x1 : Int) (σ : AMem) : Prop :=
  am_let (am_upd σ 9790 0 0) (fun σ1 => T_Model_rowOf [9790, x1] σ1 (fun r2 σ3 => (if r2 < 0 then
  Q (-1) σ3
  else
  0 ≤ r2 ∧ r2 < 8 ∧ Q (σ3 9859 r2) σ3)))
def B_Model_flags : (Nat → List Int → AMem → Prop) → (Int → AMem → Prop) → Nat → List Int → AMem → Prop := fun X Q j v σ => am_sel [(am_v2 (fun t x1 σ => if t = 9790 then B_Model_flags_0 X Q x1 σ else False))] j v σ
def T_Model_flags : List Int → AMem → (Int → AMem → Prop) → Prop := am_T B_Model_flags
abbrev y_Model_flags : MethodName := ⟨"LinkHouseModel", "flags", "(J)J"⟩
def a_Model_flags : AC := (341, (y_Model_flags, prog_10_method_163_code, 4, (Option.some Jvm.ClassFile.FieldType.long)), [2, 1], 1, false, { frames := 1, cells := 0, slots := 0, locals := 31 }, T_Model_flags)
set_option maxRecDepth 100000 in
theorem ms_Model_flags : am_MSp a_Model_flags := am_ms_v 11061 9 11059 11060 8 rfl (by decide +kernel)
abbrev k_Model_flags : List AC := [a_Model_rowOf]
set_option maxRecDepth 100000 in
theorem s_Model_flags : (am_chkR { frames := 1, cells := 0, slots := 0, locals := 31 } k_Model_flags && am_chkN c_Model_flags { frames := 1, cells := 0, slots := 0, locals := 31 } && c_Model_flags.all (am_chk "LinkHouseModel" prog_10_method_163_code 4 (Option.some Jvm.ClassFile.FieldType.long) k_Model_flags) && c_Model_flags.all (am_chkL m_Model_flags) && decide (m_Model_flags[0]? = some (0, am_argp 0 [2, 1], [])) && decide (am_argn [2, 1] ≤ 4)) = true := by decide +kernel
set_option maxHeartbeats 150000 in
set_option maxRecDepth 100000 in
theorem h_Model_flags : ∀ X Q j v σ, B_Model_flags X Q j v σ → am_at GR k_Model_flags c_Model_flags m_Model_flags X Q 21 j v σ := fun X Q => am_sel_all (P := fun j v σ => am_at GR k_Model_flags c_Model_flags m_Model_flags X Q 21 j v σ) (⟨(am_v2_of (fun t x1 σ h => am_tk (fun e => by subst e; exact fun h => h) h)), trivial⟩)
set_option maxRecDepth 100000 in
theorem S_Model_flags (l : Launch) (w : AW) : am_S l w GR a_Model_flags := am_sound (rt := 1) (cal := k_Model_flags) 341 y_Model_flags prog_10_method_163_code 4 (Option.some Jvm.ClassFile.FieldType.long) [2, 1] false { frames := 1, cells := 0, slots := 0, locals := 31 } B_Model_flags "LinkHouseModel" c_Model_flags m_Model_flags 21 ms_Model_flags (by decide +kernel) rfl rfl (am_cal (S_Model_rowOf l w) (fun _ h => absurd h List.not_mem_nil)) s_Model_flags h_Model_flags
set_option maxRecDepth 100000 in
theorem of_Model_flags {Q : Int → AMem → Prop} {x1 : Int} {σ : AMem} (h : ∀ X : Nat → List Int → AMem → Prop, (∀ (x1 : Int) (σ : AMem), B_Model_flags_0 X Q x1 σ → X 0 [9790, x1] σ) → X 0 [9790, x1] σ) : T_Model_flags [9790, x1] σ Q := fun X hX => h X (fun x1 σ h => hX 0 [9790, x1] σ h)
set_option maxRecDepth 100000 in
theorem iff_Model_flags {Q : Int → AMem → Prop} {X : Nat → List Int → AMem → Prop} {x1 : Int} {σ : AMem} : T_Model_flags [9790, x1] σ Q ↔ B_Model_flags_0 X Q x1 σ := ⟨fun h => h (fun j v σ => B_Model_flags X Q j v σ) (fun _ _ _ q => q), fun h _ hX => hX 0 _ _ h⟩
def c_Model_address : List aE := [(0, 1, .aload_n 0, 1, 0, 0, []), (1, 0, .aload_n 0, 1, 0, 0, []), (2, 0, .getfield 40, 3, 8, 13, [0, 0, 6202]), (5, 0, .ifCond .eq 7, 3, 0, 0, []), (8, 0, .iconst 1, 1, 0, 0, []), (9, 0, .goto 4, 3, 0, 0, []), (12, 0, .iconst 0, 1, 0, 0, []), (13, 2, .iconst 0, 1, 0, 0, []), (14, 0, .invokevirtual 287, 3, 181, 8, [8108]), (17, 0, .ifCond .eq 5, 3, 0, 0, []), (20, 0, .lconst 0, 1, 0, 0, []), (21, 0, .lreturn, 1, 0, 0, []), (22, 0, .aload_n 0, 1, 0, 0, []), (23, 0, .aload_n 0, 1, 0, 0, []), (24, 0, .getfield 7, 3, 8, 1, [2, 0, 6190]), (27, 0, .iconst 0, 1, 0, 0, []), (28, 0, .aload_n 0, 1, 0, 0, []), (29, 0, .getfield 284, 3, 8, 2, [0, 0, 6191]), (32, 0, .invokevirtual 479, 3, 229, 8, [9088]), (35, 0, .istore_n 1, 1, 0, 0, []), (36, 0, .aload_n 0, 1, 0, 0, []), (37, 0, .iconst 0, 1, 0, 0, []), (38, 0, .putfield 284, 3, 8, 2, [0, 0, 6191]), (41, 0, .iload_n 1, 1, 0, 0, []), (42, 0, .ifCond .ge 9, 3, 0, 0, []), (45, 0, .ldc2_w 684, 3, 1, 1, [10043]), (48, 0, .goto 9, 3, 0, 0, []), (51, 0, .aload_n 0, 1, 0, 0, []), (52, 0, .getfield 78, 3, 8, 29, [2, 0, 6218]), (55, 0, .iload_n 1, 1, 0, 0, []), (56, 0, .laload, 1, 0, 0, []), (57, 0, .lreturn, 1, 0, 0, [])]
def m_Model_address : List aT := [(0, [(0, 2)], []), (13, [(0, 2)], [0, 2])]
def B_Model_address_0 (X : Nat → List Int → AMem → Prop) (Q : Int → AMem → Prop) (σ : AMem) : Prop :=
  (if (σ 9790 13) = 0 then
  X 1 [9790, 0, 9790] σ
  else
  X 1 [9790, 1, 9790] σ)
def B_Model_address_1 (X : Nat → List Int → AMem → Prop) (Q : Int → AMem → Prop) (s0 s1 : Int) (σ : AMem) : Prop :=
  (if ly_k s1 = 28 then T_Model_throwing [s1, s0, 0] σ (fun r1 σ2 => (if r1 = 0 then
  T_Model_find [9790, 9791, 0, (σ2 9790 2)] σ2 (fun r3 σ4 => am_let (am_upd σ4 9790 2 0) (fun σ5 => (if r3 < 0 then
    Q (-1) σ5
    else
    0 ≤ r3 ∧ r3 < 4096 ∧ Q (σ5 9811 r3) σ5)))
  else
  Q 0 σ2)) else False)
def B_Model_address : (Nat → List Int → AMem → Prop) → (Int → AMem → Prop) → Nat → List Int → AMem → Prop := fun X Q j v σ => am_sel [(am_v1 (fun t σ => if t = 9790 then B_Model_address_0 X Q σ else False)), (am_v3 (fun t s0 s1 σ => if t = 9790 then B_Model_address_1 X Q s0 s1 σ else False))] j v σ
def T_Model_address : List Int → AMem → (Int → AMem → Prop) → Prop := am_T B_Model_address
abbrev y_Model_address : MethodName := ⟨"LinkHouseModel", "address", "()J"⟩
def a_Model_address : AC := (342, (y_Model_address, prog_10_method_164_code, 2, (Option.some Jvm.ClassFile.FieldType.long)), [2], 1, false, { frames := 1, cells := 0, slots := 0, locals := 34 }, T_Model_address)
set_option maxRecDepth 100000 in
theorem ms_Model_address : am_MSp a_Model_address := am_ms_v 11065 9 11063 11064 8 rfl (by decide +kernel)
abbrev k_Model_address : List AC := [a_Model_throwing, a_Model_find]
set_option maxRecDepth 100000 in
theorem s_Model_address : (am_chkR { frames := 1, cells := 0, slots := 0, locals := 34 } k_Model_address && am_chkN c_Model_address { frames := 1, cells := 0, slots := 0, locals := 34 } && c_Model_address.all (am_chk "LinkHouseModel" prog_10_method_164_code 2 (Option.some Jvm.ClassFile.FieldType.long) k_Model_address) && c_Model_address.all (am_chkL m_Model_address) && decide (m_Model_address[0]? = some (0, am_argp 0 [2], [])) && decide (am_argn [2] ≤ 2)) = true := by decide +kernel
set_option maxHeartbeats 150000 in
set_option maxRecDepth 100000 in
theorem h_Model_address : ∀ X Q j v σ, B_Model_address X Q j v σ → am_at GR k_Model_address c_Model_address m_Model_address X Q 37 j v σ := fun X Q => am_sel_all (P := fun j v σ => am_at GR k_Model_address c_Model_address m_Model_address X Q 37 j v σ) (⟨(am_v1_of (fun t σ h => am_tk (fun e => by subst e; exact fun h => h) h)), ⟨(am_v3_of (fun t s0 s1 σ h => am_tk (fun e => by subst e; exact fun h => h) h)), trivial⟩⟩)
set_option maxRecDepth 100000 in
theorem S_Model_address (l : Launch) (w : AW) : am_S l w GR a_Model_address := am_sound (rt := 1) (cal := k_Model_address) 342 y_Model_address prog_10_method_164_code 2 (Option.some Jvm.ClassFile.FieldType.long) [2] false { frames := 1, cells := 0, slots := 0, locals := 34 } B_Model_address "LinkHouseModel" c_Model_address m_Model_address 37 ms_Model_address (by decide +kernel) rfl rfl (am_cal (S_Model_throwing l w) (am_cal (S_Model_find l w) (fun _ h => absurd h List.not_mem_nil))) s_Model_address h_Model_address
set_option maxRecDepth 100000 in
theorem of_Model_address {Q : Int → AMem → Prop} {σ : AMem} (h : ∀ X : Nat → List Int → AMem → Prop, (∀ (σ : AMem), B_Model_address_0 X Q σ → X 0 [9790] σ) → (∀ (s0 s1 : Int) (σ : AMem), B_Model_address_1 X Q s0 s1 σ → X 1 [9790, s0, s1] σ) → X 0 [9790] σ) : T_Model_address [9790] σ Q := fun X hX => h X (fun σ h => hX 0 [9790] σ h) (fun s0 s1 σ h => hX 1 [9790, s0, s1] σ h)
def c_Model_taken : List aE := [(0, 1, .aload_n 0, 1, 0, 0, []), (1, 0, .iload_n 1, 1, 0, 0, []), (2, 0, .ifCond .lt 25, 3, 0, 0, []), (5, 0, .iload_n 1, 1, 0, 0, []), (6, 0, .aload_n 0, 1, 0, 0, []), (7, 0, .getfield 467, 3, 8, 5, [0, 0, 6194]), (10, 0, .if_icmp .ge 17, 3, 0, 0, []), (13, 0, .iload_n 2, 1, 0, 0, []), (14, 0, .ifCond .lt 13, 3, 0, 0, []), (17, 0, .iload_n 2, 1, 0, 0, []), (18, 0, .aload_n 0, 1, 0, 0, []), (19, 0, .getfield 24, 3, 8, 8, [2, 0, 6197]), (22, 0, .iload_n 1, 1, 0, 0, []), (23, 0, .iaload, 1, 0, 0, []), (24, 0, .if_icmp .lt 7, 3, 0, 0, []), (27, 2, .iconst 1, 1, 0, 0, []), (28, 0, .goto 4, 3, 0, 0, []), (31, 0, .iconst 0, 1, 0, 0, []), (32, 3, .iconst 0, 1, 0, 0, []), (33, 0, .invokevirtual 287, 3, 181, 8, [8108]), (36, 0, .ifCond .eq 5, 3, 0, 0, []), (39, 0, .iconst 0, 1, 0, 0, []), (40, 0, .ireturn, 1, 1, 0, []), (41, 0, .aload_n 0, 1, 0, 0, []), (42, 0, .getfield 50, 3, 8, 19, [2, 0, 6208]), (45, 0, .iload_n 1, 1, 0, 0, []), (46, 0, .baload, 1, 3, 0, []), (47, 0, .ifCond .eq 21, 3, 0, 0, []), (50, 0, .aload_n 0, 1, 0, 0, []), (51, 0, .getfield 47, 3, 8, 18, [2, 0, 6207]), (54, 0, .bipush 8, 2, 0, 0, []), (56, 0, .iload_n 1, 1, 0, 0, []), (57, 0, .imul, 1, 0, 0, []), (58, 0, .iload_n 2, 1, 0, 0, []), (59, 0, .iadd, 1, 0, 0, []), (60, 0, .baload, 1, 3, 0, []), (61, 0, .ifCond .eq 7, 3, 0, 0, []), (64, 0, .iconst 1, 1, 0, 0, []), (65, 0, .goto 4, 3, 0, 0, []), (68, 0, .iconst 0, 1, 0, 0, []), (69, 0, .ireturn, 1, 1, 0, [])]
def m_Model_taken : List aT := [(0, [(0, 2), (1, 0), (2, 0)], []), (27, [(0, 2), (1, 0), (2, 0)], [2]), (32, [(0, 2), (1, 0), (2, 0)], [0, 2])]
def B_Model_taken_0 (X : Nat → List Int → AMem → Prop) (Q : Int → AMem → Prop) (x1 x2 : Int) (σ : AMem) : Prop :=
  (if x1 < 0 then
  X 1 [9790, x1, x2, 9790] σ
  else
  (if x1 < (σ 9790 5) then
    (if x2 < 0 then
      X 1 [9790, x1, x2, 9790] σ
      else
      0 ≤ x1 ∧ x1 < 8 ∧ (if x2 < (σ 9795 x1) then
        X 2 [9790, x1, x2, 0, 9790] σ
        else
        X 1 [9790, x1, x2, 9790] σ))
    else
    X 1 [9790, x1, x2, 9790] σ))
def B_Model_taken_1 (X : Nat → List Int → AMem → Prop) (Q : Int → AMem → Prop) (x1 x2 s0 : Int) (σ : AMem) : Prop :=
  X 2 [9790, x1, x2, 1, s0] σ
def B_Model_taken_2 (X : Nat → List Int → AMem → Prop) (Q : Int → AMem → Prop) (x1 x2 s0 s1 : Int) (σ : AMem) : Prop :=
  (if ly_k s1 = 28 then T_Model_throwing [s1, s0, 0] σ (fun r1 σ2 => (if r1 = 0 then
  0 ≤ x1 ∧ x1 < 8 ∧ (if (σ2 9802 x1) = 0 then
    Q 0 σ2
    else
    am_r32 (8 * x1) ∧ am_r32 ((8 * x1) + x2) ∧ 0 ≤ ((8 * x1) + x2) ∧ ((8 * x1) + x2) < 64 ∧ (if (σ2 9801 ((8 * x1) + x2)) = 0 then
      Q 0 σ2
      else
      Q 1 σ2))
  else
  Q 0 σ2)) else False)
def B_Model_taken : (Nat → List Int → AMem → Prop) → (Int → AMem → Prop) → Nat → List Int → AMem → Prop := fun X Q j v σ => am_sel [(am_v3 (fun t x1 x2 σ => if t = 9790 then B_Model_taken_0 X Q x1 x2 σ else False)), (am_v4 (fun t x1 x2 s0 σ => if t = 9790 then B_Model_taken_1 X Q x1 x2 s0 σ else False)), (am_v5 (fun t x1 x2 s0 s1 σ => if t = 9790 then B_Model_taken_2 X Q x1 x2 s0 s1 σ else False))] j v σ
def T_Model_taken : List Int → AMem → (Int → AMem → Prop) → Prop := am_T B_Model_taken
abbrev y_Model_taken : MethodName := ⟨"LinkHouseModel", "taken", "(II)Z"⟩
def a_Model_taken : AC := (343, (y_Model_taken, prog_10_method_165_code, 3, (Option.some Jvm.ClassFile.FieldType.boolean)), [2, 0, 0], 0, false, { frames := 1, cells := 0, slots := 0, locals := 30 }, T_Model_taken)
set_option maxRecDepth 100000 in
theorem ms_Model_taken : am_MSp a_Model_taken := am_ms_v 11069 9 11067 11068 8 rfl (by decide +kernel)
abbrev k_Model_taken : List AC := [a_Model_throwing]
set_option maxRecDepth 100000 in
theorem s_Model_taken : (am_chkR { frames := 1, cells := 0, slots := 0, locals := 30 } k_Model_taken && am_chkN c_Model_taken { frames := 1, cells := 0, slots := 0, locals := 30 } && c_Model_taken.all (am_chk "LinkHouseModel" prog_10_method_165_code 3 (Option.some Jvm.ClassFile.FieldType.boolean) k_Model_taken) && c_Model_taken.all (am_chkL m_Model_taken) && decide (m_Model_taken[0]? = some (0, am_argp 0 [2, 0, 0], [])) && decide (am_argn [2, 0, 0] ≤ 3)) = true := by decide +kernel
set_option maxHeartbeats 150000 in
set_option maxRecDepth 100000 in
theorem h_Model_taken : ∀ X Q j v σ, B_Model_taken X Q j v σ → am_at GR k_Model_taken c_Model_taken m_Model_taken X Q 46 j v σ := fun X Q => am_sel_all (P := fun j v σ => am_at GR k_Model_taken c_Model_taken m_Model_taken X Q 46 j v σ) (⟨(am_v3_of (fun t x1 x2 σ h => am_tk (fun e => by subst e; exact fun h => h) h)), ⟨(am_v4_of (fun t x1 x2 s0 σ h => am_tk (fun e => by subst e; exact fun h => h) h)), ⟨(am_v5_of (fun t x1 x2 s0 s1 σ h => am_tk (fun e => by subst e; exact fun h => h) h)), trivial⟩⟩⟩)
set_option maxRecDepth 100000 in
theorem S_Model_taken (l : Launch) (w : AW) : am_S l w GR a_Model_taken := am_sound (rt := 0) (cal := k_Model_taken) 343 y_Model_taken prog_10_method_165_code 3 (Option.some Jvm.ClassFile.FieldType.boolean) [2, 0, 0] false { frames := 1, cells := 0, slots := 0, locals := 30 } B_Model_taken "LinkHouseModel" c_Model_taken m_Model_taken 46 ms_Model_taken (by decide +kernel) rfl rfl (am_cal (S_Model_throwing l w) (fun _ h => absurd h List.not_mem_nil)) s_Model_taken h_Model_taken
set_option maxRecDepth 100000 in
theorem of_Model_taken {Q : Int → AMem → Prop} {x1 x2 : Int} {σ : AMem} (h : ∀ X : Nat → List Int → AMem → Prop, (∀ (x1 x2 : Int) (σ : AMem), B_Model_taken_0 X Q x1 x2 σ → X 0 [9790, x1, x2] σ) → (∀ (x1 x2 s0 : Int) (σ : AMem), B_Model_taken_1 X Q x1 x2 s0 σ → X 1 [9790, x1, x2, s0] σ) → (∀ (x1 x2 s0 s1 : Int) (σ : AMem), B_Model_taken_2 X Q x1 x2 s0 s1 σ → X 2 [9790, x1, x2, s0, s1] σ) → X 0 [9790, x1, x2] σ) : T_Model_taken [9790, x1, x2] σ Q := fun X hX => h X (fun x1 x2 σ h => hX 0 [9790, x1, x2] σ h) (fun x1 x2 s0 σ h => hX 1 [9790, x1, x2, s0] σ h) (fun x1 x2 s0 s1 σ h => hX 2 [9790, x1, x2, s0, s1] σ h)
def c_Model_section : List aE := [(0, 1, .aload_n 0, 1, 0, 0, []), (1, 0, .aload_n 0, 1, 0, 0, []), (2, 0, .getfield 40, 3, 8, 13, [0, 0, 6202]), (5, 0, .ifCond .eq 7, 3, 0, 0, []), (8, 0, .iconst 1, 1, 0, 0, []), (9, 0, .goto 4, 3, 0, 0, []), (12, 0, .iconst 0, 1, 0, 0, []), (13, 2, .iload_n 1, 1, 0, 0, []), (14, 0, .ifCond .lt 20, 3, 0, 0, []), (17, 0, .iload_n 1, 1, 0, 0, []), (18, 0, .aload_n 0, 1, 0, 0, []), (19, 0, .getfield 601, 3, 8, 50, [0, 0, 6239]), (22, 0, .if_icmp .ge 12, 3, 0, 0, []), (25, 0, .iload_n 2, 1, 0, 0, []), (26, 0, .ifCond .lt 8, 3, 0, 0, []), (29, 0, .iload_n 2, 1, 0, 0, []), (30, 0, .iconst 4, 1, 0, 0, []), (31, 0, .if_icmp .le 7, 3, 0, 0, []), (34, 3, .iconst 1, 1, 0, 0, []), (35, 0, .goto 4, 3, 0, 0, []), (38, 0, .iconst 0, 1, 0, 0, []), (39, 4, .invokevirtual 287, 3, 181, 8, [8108]), (42, 0, .ifCond .eq 5, 3, 0, 0, []), (45, 0, .iconst 0, 1, 0, 0, []), (46, 0, .ireturn, 1, 0, 0, []), (47, 0, .iload_n 2, 1, 0, 0, []), (48, 0, .ifCond .ne 12, 3, 0, 0, []), (51, 0, .aload_n 0, 1, 0, 0, []), (52, 0, .getfield 130, 3, 8, 52, [2, 0, 7001]), (55, 0, .iload_n 1, 1, 0, 0, []), (56, 0, .iaload, 1, 0, 0, []), (57, 0, .goto 51, 3, 0, 0, []), (60, 0, .iload_n 2, 1, 0, 0, []), (61, 0, .iconst 1, 1, 0, 0, []), (62, 0, .if_icmp .ne 12, 3, 0, 0, []), (65, 0, .aload_n 0, 1, 0, 0, []), (66, 0, .getfield 133, 3, 8, 53, [2, 0, 7002]), (69, 0, .iload_n 1, 1, 0, 0, []), (70, 0, .iaload, 1, 0, 0, []), (71, 0, .goto 37, 3, 0, 0, []), (74, 0, .iload_n 2, 1, 0, 0, []), (75, 0, .iconst 2, 1, 0, 0, []), (76, 0, .if_icmp .ne 12, 3, 0, 0, []), (79, 0, .aload_n 0, 1, 0, 0, []), (80, 0, .getfield 136, 3, 8, 54, [2, 0, 7003]), (83, 0, .iload_n 1, 1, 0, 0, []), (84, 0, .iaload, 1, 0, 0, []), (85, 0, .goto 23, 3, 0, 0, []), (88, 0, .iload_n 2, 1, 0, 0, []), (89, 0, .iconst 3, 1, 0, 0, []), (90, 0, .if_icmp .ne 12, 3, 0, 0, []), (93, 0, .aload_n 0, 1, 0, 0, []), (94, 0, .getfield 139, 3, 8, 55, [2, 0, 7004]), (97, 0, .iload_n 1, 1, 0, 0, []), (98, 0, .iaload, 1, 0, 0, []), (99, 0, .goto 9, 3, 0, 0, []), (102, 0, .aload_n 0, 1, 0, 0, []), (103, 0, .getfield 142, 3, 8, 56, [2, 0, 7005]), (106, 0, .iload_n 1, 1, 0, 0, []), (107, 0, .iaload, 1, 0, 0, []), (108, 0, .ireturn, 1, 0, 0, [])]
def m_Model_section : List aT := [(0, [(0, 2), (1, 0), (2, 0)], []), (13, [(0, 2), (1, 0), (2, 0)], [0, 2]), (34, [(0, 2), (1, 0), (2, 0)], [0, 2]), (39, [(0, 2), (1, 0), (2, 0)], [0, 0, 2])]
def B_Model_section_0 (X : Nat → List Int → AMem → Prop) (Q : Int → AMem → Prop) (x1 x2 : Int) (σ : AMem) : Prop :=
  (if (σ 9790 13) = 0 then
  X 1 [9790, x1, x2, 0, 9790] σ
  else
  X 1 [9790, x1, x2, 1, 9790] σ)
def B_Model_section_1 (X : Nat → List Int → AMem → Prop) (Q : Int → AMem → Prop) (x1 x2 s0 s1 : Int) (σ : AMem) : Prop :=
  (if x1 < 0 then
  X 2 [9790, x1, x2, s0, s1] σ
  else
  (if x1 < (σ 9790 50) then
    (if x2 < 0 then
      X 2 [9790, x1, x2, s0, s1] σ
      else
      (if 4 < x2 then
        X 2 [9790, x1, x2, s0, s1] σ
        else
        X 3 [9790, x1, x2, 0, s0, s1] σ))
    else
    X 2 [9790, x1, x2, s0, s1] σ))
def B_Model_section_2 (X : Nat → List Int → AMem → Prop) (Q : Int → AMem → Prop) (x1 x2 s0 s1 : Int) (σ : AMem) : Prop :=
  X 3 [9790, x1, x2, 1, s0, s1] σ
def B_Model_section_3 (X : Nat → List Int → AMem → Prop) (Q : Int → AMem → Prop) (x1 x2 s0 s1 s2 : Int) (σ : AMem) : Prop :=
  (if ly_k s2 = 28 then T_Model_throwing [s2, s1, s0] σ (fun r1 σ2 => (if r1 = 0 then
  (if x2 = 0 then
    0 ≤ x1 ∧ x1 < 1536 ∧ Q (σ2 9828 x1) σ2
    else
    (if x2 = 1 then
      0 ≤ x1 ∧ x1 < 1536 ∧ Q (σ2 9829 x1) σ2
      else
      (if x2 = 2 then
        0 ≤ x1 ∧ x1 < 1536 ∧ Q (σ2 9830 x1) σ2
        else
        (if x2 = 3 then
          0 ≤ x1 ∧ x1 < 1536 ∧ Q (σ2 9831 x1) σ2
          else
          0 ≤ x1 ∧ x1 < 1536 ∧ Q (σ2 9832 x1) σ2))))
  else
  Q 0 σ2)) else False)
def B_Model_section : (Nat → List Int → AMem → Prop) → (Int → AMem → Prop) → Nat → List Int → AMem → Prop := fun X Q j v σ => am_sel [(am_v3 (fun t x1 x2 σ => if t = 9790 then B_Model_section_0 X Q x1 x2 σ else False)), (am_v5 (fun t x1 x2 s0 s1 σ => if t = 9790 then B_Model_section_1 X Q x1 x2 s0 s1 σ else False)), (am_v5 (fun t x1 x2 s0 s1 σ => if t = 9790 then B_Model_section_2 X Q x1 x2 s0 s1 σ else False)), (am_v6 (fun t x1 x2 s0 s1 s2 σ => if t = 9790 then B_Model_section_3 X Q x1 x2 s0 s1 s2 σ else False))] j v σ
def T_Model_section : List Int → AMem → (Int → AMem → Prop) → Prop := am_T B_Model_section
abbrev y_Model_section : MethodName := ⟨"LinkHouseModel", "section", "(II)I"⟩
def a_Model_section : AC := (344, (y_Model_section, prog_10_method_166_code, 3, (Option.some Jvm.ClassFile.FieldType.int)), [2, 0, 0], 0, false, { frames := 1, cells := 0, slots := 0, locals := 30 }, T_Model_section)
set_option maxRecDepth 100000 in
theorem ms_Model_section : am_MSp a_Model_section := am_ms_v 11073 9 11071 11072 8 rfl (by decide +kernel)
abbrev k_Model_section : List AC := [a_Model_throwing]
set_option maxRecDepth 100000 in
theorem s_Model_section : (am_chkR { frames := 1, cells := 0, slots := 0, locals := 30 } k_Model_section && am_chkN c_Model_section { frames := 1, cells := 0, slots := 0, locals := 30 } && c_Model_section.all (am_chk "LinkHouseModel" prog_10_method_166_code 3 (Option.some Jvm.ClassFile.FieldType.int) k_Model_section) && c_Model_section.all (am_chkL m_Model_section) && decide (m_Model_section[0]? = some (0, am_argp 0 [2, 0, 0], [])) && decide (am_argn [2, 0, 0] ≤ 3)) = true := by decide +kernel
set_option maxHeartbeats 150000 in
set_option maxRecDepth 100000 in
theorem h_Model_section : ∀ X Q j v σ, B_Model_section X Q j v σ → am_at GR k_Model_section c_Model_section m_Model_section X Q 66 j v σ := fun X Q => am_sel_all (P := fun j v σ => am_at GR k_Model_section c_Model_section m_Model_section X Q 66 j v σ) (⟨(am_v3_of (fun t x1 x2 σ h => am_tk (fun e => by subst e; exact fun h => h) h)), ⟨(am_v5_of (fun t x1 x2 s0 s1 σ h => am_tk (fun e => by subst e; exact fun h => h) h)), ⟨(am_v5_of (fun t x1 x2 s0 s1 σ h => am_tk (fun e => by subst e; exact fun h => h) h)), ⟨(am_v6_of (fun t x1 x2 s0 s1 s2 σ h => am_tk (fun e => by subst e; exact fun h => h) h)), trivial⟩⟩⟩⟩)
set_option maxRecDepth 100000 in
theorem S_Model_section (l : Launch) (w : AW) : am_S l w GR a_Model_section := am_sound (rt := 0) (cal := k_Model_section) 344 y_Model_section prog_10_method_166_code 3 (Option.some Jvm.ClassFile.FieldType.int) [2, 0, 0] false { frames := 1, cells := 0, slots := 0, locals := 30 } B_Model_section "LinkHouseModel" c_Model_section m_Model_section 66 ms_Model_section (by decide +kernel) rfl rfl (am_cal (S_Model_throwing l w) (fun _ h => absurd h List.not_mem_nil)) s_Model_section h_Model_section
set_option maxRecDepth 100000 in
theorem of_Model_section {Q : Int → AMem → Prop} {x1 x2 : Int} {σ : AMem} (h : ∀ X : Nat → List Int → AMem → Prop, (∀ (x1 x2 : Int) (σ : AMem), B_Model_section_0 X Q x1 x2 σ → X 0 [9790, x1, x2] σ) → (∀ (x1 x2 s0 s1 : Int) (σ : AMem), B_Model_section_1 X Q x1 x2 s0 s1 σ → X 1 [9790, x1, x2, s0, s1] σ) → (∀ (x1 x2 s0 s1 : Int) (σ : AMem), B_Model_section_2 X Q x1 x2 s0 s1 σ → X 2 [9790, x1, x2, s0, s1] σ) → (∀ (x1 x2 s0 s1 s2 : Int) (σ : AMem), B_Model_section_3 X Q x1 x2 s0 s1 s2 σ → X 3 [9790, x1, x2, s0, s1, s2] σ) → X 0 [9790, x1, x2] σ) : T_Model_section [9790, x1, x2] σ Q := fun X hX => h X (fun x1 x2 σ h => hX 0 [9790, x1, x2] σ h) (fun x1 x2 s0 s1 σ h => hX 1 [9790, x1, x2, s0, s1] σ h) (fun x1 x2 s0 s1 σ h => hX 2 [9790, x1, x2, s0, s1] σ h) (fun x1 x2 s0 s1 s2 σ h => hX 3 [9790, x1, x2, s0, s1, s2] σ h)
def c_Model_place : List aE := [(0, 1, .aload_n 0, 1, 0, 0, []), (1, 0, .aload_n 0, 1, 0, 0, []), (2, 0, .getfield 40, 3, 8, 13, [0, 0, 6202]), (5, 0, .ifCond .eq 7, 3, 0, 0, []), (8, 0, .iconst 1, 1, 0, 0, []), (9, 0, .goto 4, 3, 0, 0, []), (12, 0, .iconst 0, 1, 0, 0, []), (13, 2, .iload_n 1, 1, 0, 0, []), (14, 0, .ifCond .lt 11, 3, 0, 0, []), (17, 0, .iload_n 1, 1, 0, 0, []), (18, 0, .aload_n 0, 1, 0, 0, []), (19, 0, .getfield 601, 3, 8, 50, [0, 0, 6239]), (22, 0, .if_icmp .lt 7, 3, 0, 0, []), (25, 3, .iconst 1, 1, 0, 0, []), (26, 0, .goto 4, 3, 0, 0, []), (29, 0, .iconst 0, 1, 0, 0, []), (30, 4, .invokevirtual 287, 3, 181, 8, [8108]), (33, 0, .ifCond .eq 5, 3, 0, 0, []), (36, 0, .lconst 0, 1, 0, 0, []), (37, 0, .lreturn, 1, 0, 0, []), (38, 0, .aload_n 0, 1, 0, 0, []), (39, 0, .getfield 145, 3, 8, 57, [2, 0, 7006]), (42, 0, .iload_n 1, 1, 0, 0, []), (43, 0, .laload, 1, 0, 0, []), (44, 0, .lreturn, 1, 0, 0, [])]
def m_Model_place : List aT := [(0, [(0, 2), (1, 0)], []), (13, [(0, 2), (1, 0)], [0, 2]), (25, [(0, 2), (1, 0)], [0, 2]), (30, [(0, 2), (1, 0)], [0, 0, 2])]
def B_Model_place_0 (X : Nat → List Int → AMem → Prop) (Q : Int → AMem → Prop) (x1 : Int) (σ : AMem) : Prop :=
  (if (σ 9790 13) = 0 then
  X 1 [9790, x1, 0, 9790] σ
  else
  X 1 [9790, x1, 1, 9790] σ)
def B_Model_place_1 (X : Nat → List Int → AMem → Prop) (Q : Int → AMem → Prop) (x1 s0 s1 : Int) (σ : AMem) : Prop :=
  (if x1 < 0 then
  X 2 [9790, x1, s0, s1] σ
  else
  (if x1 < (σ 9790 50) then
    X 3 [9790, x1, 0, s0, s1] σ
    else
    X 2 [9790, x1, s0, s1] σ))
def B_Model_place_2 (X : Nat → List Int → AMem → Prop) (Q : Int → AMem → Prop) (x1 s0 s1 : Int) (σ : AMem) : Prop :=
  X 3 [9790, x1, 1, s0, s1] σ
def B_Model_place_3 (X : Nat → List Int → AMem → Prop) (Q : Int → AMem → Prop) (x1 s0 s1 s2 : Int) (σ : AMem) : Prop :=
  (if ly_k s2 = 28 then T_Model_throwing [s2, s1, s0] σ (fun r1 σ2 => (if r1 = 0 then
  0 ≤ x1 ∧ x1 < 1536 ∧ Q (σ2 9833 x1) σ2
  else
  Q 0 σ2)) else False)
def B_Model_place : (Nat → List Int → AMem → Prop) → (Int → AMem → Prop) → Nat → List Int → AMem → Prop := fun X Q j v σ => am_sel [(am_v2 (fun t x1 σ => if t = 9790 then B_Model_place_0 X Q x1 σ else False)), (am_v4 (fun t x1 s0 s1 σ => if t = 9790 then B_Model_place_1 X Q x1 s0 s1 σ else False)), (am_v4 (fun t x1 s0 s1 σ => if t = 9790 then B_Model_place_2 X Q x1 s0 s1 σ else False)), (am_v5 (fun t x1 s0 s1 s2 σ => if t = 9790 then B_Model_place_3 X Q x1 s0 s1 s2 σ else False))] j v σ
def T_Model_place : List Int → AMem → (Int → AMem → Prop) → Prop := am_T B_Model_place
abbrev y_Model_place : MethodName := ⟨"LinkHouseModel", "place", "(I)J"⟩
def a_Model_place : AC := (345, (y_Model_place, prog_10_method_167_code, 2, (Option.some Jvm.ClassFile.FieldType.long)), [2, 0], 1, false, { frames := 1, cells := 0, slots := 0, locals := 30 }, T_Model_place)
set_option maxRecDepth 100000 in
theorem ms_Model_place : am_MSp a_Model_place := am_ms_v 11077 9 11075 11076 8 rfl (by decide +kernel)
abbrev k_Model_place : List AC := [a_Model_throwing]
set_option maxRecDepth 100000 in
theorem s_Model_place : (am_chkR { frames := 1, cells := 0, slots := 0, locals := 30 } k_Model_place && am_chkN c_Model_place { frames := 1, cells := 0, slots := 0, locals := 30 } && c_Model_place.all (am_chk "LinkHouseModel" prog_10_method_167_code 2 (Option.some Jvm.ClassFile.FieldType.long) k_Model_place) && c_Model_place.all (am_chkL m_Model_place) && decide (m_Model_place[0]? = some (0, am_argp 0 [2, 0], [])) && decide (am_argn [2, 0] ≤ 2)) = true := by decide +kernel
set_option maxHeartbeats 150000 in
set_option maxRecDepth 100000 in
theorem h_Model_place : ∀ X Q j v σ, B_Model_place X Q j v σ → am_at GR k_Model_place c_Model_place m_Model_place X Q 30 j v σ := fun X Q => am_sel_all (P := fun j v σ => am_at GR k_Model_place c_Model_place m_Model_place X Q 30 j v σ) (⟨(am_v2_of (fun t x1 σ h => am_tk (fun e => by subst e; exact fun h => h) h)), ⟨(am_v4_of (fun t x1 s0 s1 σ h => am_tk (fun e => by subst e; exact fun h => h) h)), ⟨(am_v4_of (fun t x1 s0 s1 σ h => am_tk (fun e => by subst e; exact fun h => h) h)), ⟨(am_v5_of (fun t x1 s0 s1 s2 σ h => am_tk (fun e => by subst e; exact fun h => h) h)), trivial⟩⟩⟩⟩)
set_option maxRecDepth 100000 in
theorem S_Model_place (l : Launch) (w : AW) : am_S l w GR a_Model_place := am_sound (rt := 1) (cal := k_Model_place) 345 y_Model_place prog_10_method_167_code 2 (Option.some Jvm.ClassFile.FieldType.long) [2, 0] false { frames := 1, cells := 0, slots := 0, locals := 30 } B_Model_place "LinkHouseModel" c_Model_place m_Model_place 30 ms_Model_place (by decide +kernel) rfl rfl (am_cal (S_Model_throwing l w) (fun _ h => absurd h List.not_mem_nil)) s_Model_place h_Model_place
set_option maxRecDepth 100000 in
theorem of_Model_place {Q : Int → AMem → Prop} {x1 : Int} {σ : AMem} (h : ∀ X : Nat → List Int → AMem → Prop, (∀ (x1 : Int) (σ : AMem), B_Model_place_0 X Q x1 σ → X 0 [9790, x1] σ) → (∀ (x1 s0 s1 : Int) (σ : AMem), B_Model_place_1 X Q x1 s0 s1 σ → X 1 [9790, x1, s0, s1] σ) → (∀ (x1 s0 s1 : Int) (σ : AMem), B_Model_place_2 X Q x1 s0 s1 σ → X 2 [9790, x1, s0, s1] σ) → (∀ (x1 s0 s1 s2 : Int) (σ : AMem), B_Model_place_3 X Q x1 s0 s1 s2 σ → X 3 [9790, x1, s0, s1, s2] σ) → X 0 [9790, x1] σ) : T_Model_place [9790, x1] σ Q := fun X hX => h X (fun x1 σ h => hX 0 [9790, x1] σ h) (fun x1 s0 s1 σ h => hX 1 [9790, x1, s0, s1] σ h) (fun x1 s0 s1 σ h => hX 2 [9790, x1, s0, s1] σ h) (fun x1 s0 s1 s2 σ h => hX 3 [9790, x1, s0, s1, s2] σ h)
def c_Model_out : List aE := [(0, 1, .aload_n 0, 1, 0, 0, []), (1, 0, .iload_n 1, 1, 0, 0, []), (2, 0, .ifCond .lt 11, 3, 0, 0, []), (5, 0, .iload_n 1, 1, 0, 0, []), (6, 0, .aload_n 0, 1, 0, 0, []), (7, 0, .getfield 519, 3, 8, 4, [0, 0, 6193]), (10, 0, .if_icmp .lt 7, 3, 0, 0, []), (13, 2, .iconst 1, 1, 0, 0, []), (14, 0, .goto 4, 3, 0, 0, []), (17, 0, .iconst 0, 1, 0, 0, []), (18, 3, .iconst 0, 1, 0, 0, []), (19, 0, .invokevirtual 287, 3, 181, 8, [8108]), (22, 0, .ifCond .eq 5, 3, 0, 0, []), (25, 0, .lconst 0, 1, 0, 0, []), (26, 0, .lreturn, 1, 0, 0, []), (27, 0, .lconst 0, 1, 0, 0, []), (28, 0, .lstore_n 2, 1, 0, 0, []), (29, 0, .bipush 7, 2, 0, 0, []), (31, 0, .istore 4, 2, 0, 0, []), (33, 4, .iload 4, 2, 0, 0, []), (35, 0, .ifCond .lt 44, 3, 0, 0, []), (38, 0, .lload_n 2, 1, 0, 0, []), (39, 0, .bipush 8, 2, 0, 0, []), (41, 0, .lshl, 1, 0, 0, []), (42, 0, .iload_n 1, 1, 0, 0, []), (43, 0, .iload 4, 2, 0, 0, []), (45, 0, .iadd, 1, 0, 0, []), (46, 0, .aload_n 0, 1, 0, 0, []), (47, 0, .getfield 519, 3, 8, 4, [0, 0, 6193]), (50, 0, .if_icmp .ge 19, 3, 0, 0, []), (53, 0, .aload_n 0, 1, 0, 0, []), (54, 0, .getfield 14, 3, 8, 3, [2, 0, 6192]), (57, 0, .iload_n 1, 1, 0, 0, []), (58, 0, .iload 4, 2, 0, 0, []), (60, 0, .iadd, 1, 0, 0, []), (61, 0, .baload, 1, 2, 0, []), (62, 0, .sipush 255, 3, 0, 0, []), (65, 0, .iand, 1, 0, 0, []), (66, 0, .goto 4, 3, 0, 0, []), (69, 0, .iconst 0, 1, 0, 0, []), (70, 5, .i2l, 1, 0, 0, []), (71, 0, .lor, 1, 0, 0, []), (72, 0, .lstore_n 2, 1, 0, 0, []), (73, 0, .iinc 4 (-1), 3, 0, 0, []), (76, 0, .goto (-43), 3, 0, 0, []), (79, 0, .lload_n 2, 1, 0, 0, []), (80, 0, .lreturn, 1, 0, 0, [])]
def m_Model_out : List aT := [(0, [(0, 2), (1, 0)], []), (13, [(0, 2), (1, 0)], [2]), (18, [(0, 2), (1, 0)], [0, 2]), (33, [(0, 2), (1, 0), (2, 1), (4, 0)], []), (70, [(0, 2), (1, 0), (4, 0)], [0, 1])]
def B_Model_out_0 (X : Nat → List Int → AMem → Prop) (Q : Int → AMem → Prop) (x1 : Int) (σ : AMem) : Prop :=
  (if x1 < 0 then
  X 1 [9790, x1, 9790] σ
  else
  (if x1 < (σ 9790 4) then
    X 2 [9790, x1, 0, 9790] σ
    else
    X 1 [9790, x1, 9790] σ))
def B_Model_out_1 (X : Nat → List Int → AMem → Prop) (Q : Int → AMem → Prop) (x1 s0 : Int) (σ : AMem) : Prop :=
  X 2 [9790, x1, 1, s0] σ
def B_Model_out_2 (X : Nat → List Int → AMem → Prop) (Q : Int → AMem → Prop) (x1 s0 s1 : Int) (σ : AMem) : Prop :=
  (if ly_k s1 = 28 then T_Model_throwing [s1, s0, 0] σ (fun r1 σ2 => (if r1 = 0 then
  X 3 [9790, x1, 0, 7] σ2
  else
  Q 0 σ2)) else False)
def B_Model_out_3 (X : Nat → List Int → AMem → Prop) (Q : Int → AMem → Prop) (x1 x2 x4 : Int) (σ : AMem) : Prop :=
  (if x4 < 0 then
  Q x2 σ
  else
  am_r32 (x1 + x4) ∧ (if (x1 + x4) < (σ 9790 4) then
    am_r32 (x1 + x4) ∧ 0 ≤ (x1 + x4) ∧ (x1 + x4) < 65536 ∧ X 4 [9790, x1, x4, (i_and (σ 9792 (x1 + x4)) 255), (l_shl x2 8)] σ
    else
    X 4 [9790, x1, x4, 0, (l_shl x2 8)] σ))
def B_Model_out_4 (X : Nat → List Int → AMem → Prop) (Q : Int → AMem → Prop) (x1 x4 s0 s1 : Int) (σ : AMem) : Prop :=
  am_r32 (x4 + (-1)) ∧ X 3 [9790, x1, (l_or s1 s0), (x4 + (-1))] σ
def B_Model_out : (Nat → List Int → AMem → Prop) → (Int → AMem → Prop) → Nat → List Int → AMem → Prop := fun X Q j v σ => am_sel [(am_v2 (fun t x1 σ => if t = 9790 then B_Model_out_0 X Q x1 σ else False)), (am_v3 (fun t x1 s0 σ => if t = 9790 then B_Model_out_1 X Q x1 s0 σ else False)), (am_v4 (fun t x1 s0 s1 σ => if t = 9790 then B_Model_out_2 X Q x1 s0 s1 σ else False)), (am_v4 (fun t x1 x2 x4 σ => if t = 9790 then B_Model_out_3 X Q x1 x2 x4 σ else False)), (am_v5 (fun t x1 x4 s0 s1 σ => if t = 9790 then B_Model_out_4 X Q x1 x4 s0 s1 σ else False))] j v σ
def T_Model_out : List Int → AMem → (Int → AMem → Prop) → Prop := am_T B_Model_out
abbrev y_Model_out : MethodName := ⟨"LinkHouseModel", "out", "(I)J"⟩
def a_Model_out : AC := (346, (y_Model_out, prog_10_method_168_code, 5, (Option.some Jvm.ClassFile.FieldType.long)), [2, 0], 1, false, { frames := 1, cells := 0, slots := 0, locals := 30 }, T_Model_out)
set_option maxRecDepth 100000 in
theorem ms_Model_out : am_MSp a_Model_out := am_ms_v 11081 9 11079 11080 8 rfl (by decide +kernel)
abbrev k_Model_out : List AC := [a_Model_throwing]
set_option maxRecDepth 100000 in
theorem s_Model_out : (am_chkR { frames := 1, cells := 0, slots := 0, locals := 30 } k_Model_out && am_chkN c_Model_out { frames := 1, cells := 0, slots := 0, locals := 30 } && c_Model_out.all (am_chk "LinkHouseModel" prog_10_method_168_code 5 (Option.some Jvm.ClassFile.FieldType.long) k_Model_out) && c_Model_out.all (am_chkL m_Model_out) && decide (m_Model_out[0]? = some (0, am_argp 0 [2, 0], [])) && decide (am_argn [2, 0] ≤ 5)) = true := by decide +kernel
set_option maxHeartbeats 150000 in
set_option maxRecDepth 100000 in
theorem h_Model_out : ∀ X Q j v σ, B_Model_out X Q j v σ → am_at GR k_Model_out c_Model_out m_Model_out X Q 52 j v σ := fun X Q => am_sel_all (P := fun j v σ => am_at GR k_Model_out c_Model_out m_Model_out X Q 52 j v σ) (⟨(am_v2_of (fun t x1 σ h => am_tk (fun e => by subst e; exact fun h => h) h)), ⟨(am_v3_of (fun t x1 s0 σ h => am_tk (fun e => by subst e; exact fun h => h) h)), ⟨(am_v4_of (fun t x1 s0 s1 σ h => am_tk (fun e => by subst e; exact fun h => h) h)), ⟨(am_v4_of (fun t x1 x2 x4 σ h => am_tk (fun e => by subst e; exact fun h => h) h)), ⟨(am_v5_of (fun t x1 x4 s0 s1 σ h => am_tk (fun e => by subst e; exact fun h => h) h)), trivial⟩⟩⟩⟩⟩)
set_option maxRecDepth 100000 in
theorem S_Model_out (l : Launch) (w : AW) : am_S l w GR a_Model_out := am_sound (rt := 1) (cal := k_Model_out) 346 y_Model_out prog_10_method_168_code 5 (Option.some Jvm.ClassFile.FieldType.long) [2, 0] false { frames := 1, cells := 0, slots := 0, locals := 30 } B_Model_out "LinkHouseModel" c_Model_out m_Model_out 52 ms_Model_out (by decide +kernel) rfl rfl (am_cal (S_Model_throwing l w) (fun _ h => absurd h List.not_mem_nil)) s_Model_out h_Model_out
set_option maxRecDepth 100000 in
theorem of_Model_out {Q : Int → AMem → Prop} {x1 : Int} {σ : AMem} (h : ∀ X : Nat → List Int → AMem → Prop, (∀ (x1 : Int) (σ : AMem), B_Model_out_0 X Q x1 σ → X 0 [9790, x1] σ) → (∀ (x1 s0 : Int) (σ : AMem), B_Model_out_1 X Q x1 s0 σ → X 1 [9790, x1, s0] σ) → (∀ (x1 s0 s1 : Int) (σ : AMem), B_Model_out_2 X Q x1 s0 s1 σ → X 2 [9790, x1, s0, s1] σ) → (∀ (x1 x2 x4 : Int) (σ : AMem), B_Model_out_3 X Q x1 x2 x4 σ → X 3 [9790, x1, x2, x4] σ) → (∀ (x1 x4 s0 s1 : Int) (σ : AMem), B_Model_out_4 X Q x1 x4 s0 s1 σ → X 4 [9790, x1, x4, s0, s1] σ) → X 0 [9790, x1] σ) : T_Model_out [9790, x1] σ Q := fun X hX => h X (fun x1 σ h => hX 0 [9790, x1] σ h) (fun x1 s0 σ h => hX 1 [9790, x1, s0] σ h) (fun x1 s0 s1 σ h => hX 2 [9790, x1, s0, s1] σ h) (fun x1 x2 x4 σ h => hX 3 [9790, x1, x2, x4] σ h) (fun x1 x4 s0 s1 σ h => hX 4 [9790, x1, x4, s0, s1] σ h)
def c_Model_look : List aE := [(0, 1, .aload_n 0, 1, 0, 0, []), (1, 0, .iload_n 1, 1, 0, 0, []), (2, 0, .ifCond .lt 9, 3, 0, 0, []), (5, 0, .iload_n 1, 1, 0, 0, []), (6, 0, .bipush 18, 2, 0, 0, []), (8, 0, .if_icmp .le 7, 3, 0, 0, []), (11, 2, .iconst 1, 1, 0, 0, []), (12, 0, .goto 4, 3, 0, 0, []), (15, 0, .iconst 0, 1, 0, 0, []), (16, 3, .iconst 0, 1, 0, 0, []), (17, 0, .invokevirtual 287, 3, 181, 8, [8108]), (20, 0, .ifCond .eq 5, 3, 0, 0, []), (23, 0, .lconst 0, 1, 0, 0, []), (24, 0, .lreturn, 1, 0, 0, []), (25, 0, .iload_n 1, 1, 0, 0, []), (26, 0, .tableswitch 217 0 18 #[90, 96, 102, 108, 114, 119, 125, 131, 217, 148, 154, 159, 165, 171, 177, 183, 199, 205, 211], 90, 0, 0, []), (116, 0, .aload_n 0, 1, 0, 0, []), (117, 0, .getfield 467, 3, 8, 5, [0, 0, 6194]), (120, 0, .i2l, 1, 0, 0, []), (121, 0, .lreturn, 1, 0, 0, []), (122, 0, .aload_n 0, 1, 0, 0, []), (123, 0, .getfield 284, 3, 8, 2, [0, 0, 6191]), (126, 0, .i2l, 1, 0, 0, []), (127, 0, .lreturn, 1, 0, 0, []), (128, 0, .aload_n 0, 1, 0, 0, []), (129, 0, .getfield 519, 3, 8, 4, [0, 0, 6193]), (132, 0, .i2l, 1, 0, 0, []), (133, 0, .lreturn, 1, 0, 0, []), (134, 0, .aload_n 0, 1, 0, 0, []), (135, 0, .getfield 40, 3, 8, 13, [0, 0, 6202]), (138, 0, .i2l, 1, 0, 0, []), (139, 0, .lreturn, 1, 0, 0, []), (140, 0, .aload_n 0, 1, 0, 0, []), (141, 0, .getfield 747, 3, 8, 16, [1, 0, 6205]), (144, 0, .lreturn, 1, 0, 0, []), (145, 0, .aload_n 0, 1, 0, 0, []), (146, 0, .getfield 531, 3, 8, 14, [0, 0, 6203]), (149, 0, .i2l, 1, 0, 0, []), (150, 0, .lreturn, 1, 0, 0, []), (151, 0, .aload_n 0, 1, 0, 0, []), (152, 0, .getfield 601, 3, 8, 50, [0, 0, 6239]), (155, 0, .i2l, 1, 0, 0, []), (156, 0, .lreturn, 1, 0, 0, []), (157, 0, .aload_n 0, 1, 0, 0, []), (158, 0, .getfield 40, 3, 8, 13, [0, 0, 6202]), (161, 0, .ifCond .ne 11, 3, 0, 0, []), (164, 0, .aload_n 0, 1, 0, 0, []), (165, 0, .getfield 630, 3, 8, 15, [0, 0, 6204]), (168, 0, .i2l, 1, 0, 0, []), (169, 0, .goto 4, 3, 0, 0, []), (172, 0, .lconst 0, 1, 0, 0, []), (173, 0, .lreturn, 1, 0, 0, []), (174, 0, .aload_n 0, 1, 0, 0, []), (175, 0, .getfield 939, 3, 8, 102, [0, 0, 7051]), (178, 0, .i2l, 1, 0, 0, []), (179, 0, .lreturn, 1, 0, 0, []), (180, 0, .aload_n 0, 1, 0, 0, []), (181, 0, .getfield 942, 3, 8, 104, [1, 0, 7053]), (184, 0, .lreturn, 1, 0, 0, []), (185, 0, .aload_n 0, 1, 0, 0, []), (186, 0, .getfield 936, 3, 8, 103, [0, 0, 7052]), (189, 0, .i2l, 1, 0, 0, []), (190, 0, .lreturn, 1, 0, 0, []), (191, 0, .aload_n 0, 1, 0, 0, []), (192, 0, .getfield 577, 3, 8, 74, [0, 0, 7023]), (195, 0, .i2l, 1, 0, 0, []), (196, 0, .lreturn, 1, 0, 0, []), (197, 0, .aload_n 0, 1, 0, 0, []), (198, 0, .getfield 528, 3, 8, 69, [0, 0, 7018]), (201, 0, .i2l, 1, 0, 0, []), (202, 0, .lreturn, 1, 0, 0, []), (203, 0, .aload_n 0, 1, 0, 0, []), (204, 0, .getfield 614, 3, 8, 88, [0, 0, 7037]), (207, 0, .i2l, 1, 0, 0, []), (208, 0, .lreturn, 1, 0, 0, []), (209, 0, .aload_n 0, 1, 0, 0, []), (210, 0, .getfield 40, 3, 8, 13, [0, 0, 6202]), (213, 0, .ifCond .ne 10, 3, 0, 0, []), (216, 0, .aload_n 0, 1, 0, 0, []), (217, 0, .getfield 662, 3, 8, 87, [1, 0, 7036]), (220, 0, .goto 4, 3, 0, 0, []), (223, 0, .lconst 0, 1, 0, 0, []), (224, 0, .lreturn, 1, 0, 0, []), (225, 0, .aload_n 0, 1, 0, 0, []), (226, 0, .getfield 486, 3, 8, 31, [0, 0, 6220]), (229, 0, .i2l, 1, 0, 0, []), (230, 0, .lreturn, 1, 0, 0, []), (231, 0, .aload_n 0, 1, 0, 0, []), (232, 0, .getfield 492, 3, 8, 32, [0, 0, 6221]), (235, 0, .i2l, 1, 0, 0, []), (236, 0, .lreturn, 1, 0, 0, []), (237, 0, .aload_n 0, 1, 0, 0, []), (238, 0, .getfield 948, 3, 8, 44, [0, 0, 6233]), (241, 0, .i2l, 1, 0, 0, []), (242, 0, .lreturn, 1, 0, 0, []), (243, 0, .aload_n 0, 1, 0, 0, []), (244, 0, .getfield 473, 3, 8, 20, [0, 0, 6209]), (247, 0, .i2l, 1, 0, 0, []), (248, 0, .lreturn, 1, 0, 0, [])]
def m_Model_look : List aT := [(0, [(0, 2), (1, 0)], []), (11, [(0, 2), (1, 0)], [2]), (16, [(0, 2), (1, 0)], [0, 2])]
def B_Model_look_0 (X : Nat → List Int → AMem → Prop) (Q : Int → AMem → Prop) (x1 : Int) (σ : AMem) : Prop :=
  (if x1 < 0 then
  X 1 [9790, x1, 9790] σ
  else
  (if 18 < x1 then
    X 1 [9790, x1, 9790] σ
    else
    X 2 [9790, x1, 0, 9790] σ))
def B_Model_look_1 (X : Nat → List Int → AMem → Prop) (Q : Int → AMem → Prop) (x1 s0 : Int) (σ : AMem) : Prop :=
  X 2 [9790, x1, 1, s0] σ
def B_Model_look_2 (X : Nat → List Int → AMem → Prop) (Q : Int → AMem → Prop) (x1 s0 s1 : Int) (σ : AMem) : Prop :=
  (if ly_k s1 = 28 then T_Model_throwing [s1, s0, 0] σ (fun r1 σ2 => (if r1 = 0 then
  (if x1 = 0 then Q (σ2 9790 5) σ2
    else (if x1 = 1 then Q (σ2 9790 2) σ2
    else (if x1 = 2 then Q (σ2 9790 4) σ2
    else (if x1 = 3 then Q (σ2 9790 13) σ2
    else (if x1 = 4 then Q (σ2 9790 16) σ2
    else (if x1 = 5 then Q (σ2 9790 14) σ2
    else (if x1 = 6 then Q (σ2 9790 50) σ2
    else (if x1 = 7 then (if (σ2 9790 13) = 0 then
      Q (σ2 9790 15) σ2
      else
      Q 0 σ2)
    else (if x1 = 8 then Q (σ2 9790 20) σ2
    else (if x1 = 9 then Q (σ2 9790 102) σ2
    else (if x1 = 10 then Q (σ2 9790 104) σ2
    else (if x1 = 11 then Q (σ2 9790 103) σ2
    else (if x1 = 12 then Q (σ2 9790 74) σ2
    else (if x1 = 13 then Q (σ2 9790 69) σ2
    else (if x1 = 14 then Q (σ2 9790 88) σ2
    else (if x1 = 15 then (if (σ2 9790 13) = 0 then
      Q (σ2 9790 87) σ2
      else
      Q 0 σ2)
    else (if x1 = 16 then Q (σ2 9790 31) σ2
    else (if x1 = 17 then Q (σ2 9790 32) σ2
    else (if x1 = 18 then Q (σ2 9790 44) σ2
    else Q (σ2 9790 20) σ2)))))))))))))))))))
  else
  Q 0 σ2)) else False)
def B_Model_look : (Nat → List Int → AMem → Prop) → (Int → AMem → Prop) → Nat → List Int → AMem → Prop := fun X Q j v σ => am_sel [(am_v2 (fun t x1 σ => if t = 9790 then B_Model_look_0 X Q x1 σ else False)), (am_v3 (fun t x1 s0 σ => if t = 9790 then B_Model_look_1 X Q x1 s0 σ else False)), (am_v4 (fun t x1 s0 s1 σ => if t = 9790 then B_Model_look_2 X Q x1 s0 s1 σ else False))] j v σ
def T_Model_look : List Int → AMem → (Int → AMem → Prop) → Prop := am_T B_Model_look
abbrev y_Model_look : MethodName := ⟨"LinkHouseModel", "look", "(I)J"⟩
def a_Model_look : AC := (347, (y_Model_look, prog_10_method_169_code, 2, (Option.some Jvm.ClassFile.FieldType.long)), [2, 0], 1, false, { frames := 1, cells := 0, slots := 0, locals := 30 }, T_Model_look)
set_option maxRecDepth 100000 in
theorem ms_Model_look : am_MSp a_Model_look := am_ms_v 11085 9 11083 11084 8 rfl (by decide +kernel)
abbrev k_Model_look : List AC := [a_Model_throwing]
set_option maxRecDepth 100000 in
theorem s_Model_look : (am_chkR { frames := 1, cells := 0, slots := 0, locals := 30 } k_Model_look && am_chkN c_Model_look { frames := 1, cells := 0, slots := 0, locals := 30 } && c_Model_look.all (am_chk "LinkHouseModel" prog_10_method_169_code 2 (Option.some Jvm.ClassFile.FieldType.long) k_Model_look) && c_Model_look.all (am_chkL m_Model_look) && decide (m_Model_look[0]? = some (0, am_argp 0 [2, 0], [])) && decide (am_argn [2, 0] ≤ 2)) = true := by decide +kernel
set_option maxHeartbeats 150000 in
set_option maxRecDepth 100000 in
theorem h_Model_look : ∀ X Q j v σ, B_Model_look X Q j v σ → am_at GR k_Model_look c_Model_look m_Model_look X Q 104 j v σ := fun X Q => am_sel_all (P := fun j v σ => am_at GR k_Model_look c_Model_look m_Model_look X Q 104 j v σ) (⟨(am_v2_of (fun t x1 σ h => am_tk (fun e => by subst e; exact fun h => h) h)), ⟨(am_v3_of (fun t x1 s0 σ h => am_tk (fun e => by subst e; exact fun h => h) h)), ⟨(am_v4_of (fun t x1 s0 s1 σ h => am_tk (fun e => by subst e; exact fun h => h) h)), trivial⟩⟩⟩)
set_option maxRecDepth 100000 in
theorem S_Model_look (l : Launch) (w : AW) : am_S l w GR a_Model_look := am_sound (rt := 1) (cal := k_Model_look) 347 y_Model_look prog_10_method_169_code 2 (Option.some Jvm.ClassFile.FieldType.long) [2, 0] false { frames := 1, cells := 0, slots := 0, locals := 30 } B_Model_look "LinkHouseModel" c_Model_look m_Model_look 104 ms_Model_look (by decide +kernel) rfl rfl (am_cal (S_Model_throwing l w) (fun _ h => absurd h List.not_mem_nil)) s_Model_look h_Model_look
set_option maxRecDepth 100000 in
theorem of_Model_look {Q : Int → AMem → Prop} {x1 : Int} {σ : AMem} (h : ∀ X : Nat → List Int → AMem → Prop, (∀ (x1 : Int) (σ : AMem), B_Model_look_0 X Q x1 σ → X 0 [9790, x1] σ) → (∀ (x1 s0 : Int) (σ : AMem), B_Model_look_1 X Q x1 s0 σ → X 1 [9790, x1, s0] σ) → (∀ (x1 s0 s1 : Int) (σ : AMem), B_Model_look_2 X Q x1 s0 s1 σ → X 2 [9790, x1, s0, s1] σ) → X 0 [9790, x1] σ) : T_Model_look [9790, x1] σ Q := fun X hX => h X (fun x1 σ h => hX 0 [9790, x1] σ h) (fun x1 s0 σ h => hX 1 [9790, x1, s0] σ h) (fun x1 s0 s1 σ h => hX 2 [9790, x1, s0, s1] σ h)
