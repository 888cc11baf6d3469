/-! methods: printed by gen/all.py -/
def c_Model_toPool : List aE := [(0, 1, .iload_n 2, 1, 0, 0, []), (1, 0, .istore_n 3, 1, 0, 0, []), (2, 2, .iload_n 3, 1, 0, 0, []), (3, 0, .iload_n 1, 1, 0, 0, []), (4, 0, .if_icmp .le 20, 3, 0, 0, []), (7, 0, .aload_n 0, 1, 0, 0, []), (8, 0, .getfield 17, 3, 8, 6, [2, 0, 6195]), (11, 0, .iload_n 3, 1, 0, 0, []), (12, 0, .iconst 1, 1, 0, 0, []), (13, 0, .isub, 1, 0, 0, []), (14, 0, .baload, 1, 2, 0, []), (15, 0, .ifCond .eq 9, 3, 0, 0, []), (18, 0, .iinc 3 (-1), 3, 0, 0, []), (21, 0, .goto (-19), 3, 0, 0, []), (24, 3, .iload_n 3, 1, 0, 0, []), (25, 0, .istore 4, 2, 0, 0, []), (27, 4, .iload 4, 2, 0, 0, []), (29, 0, .iload_n 2, 1, 0, 0, []), (30, 0, .if_icmp .gt 35, 3, 0, 0, []), (33, 0, .aload_n 0, 1, 0, 0, []), (34, 0, .getfield 196, 3, 8, 91, [2, 0, 7040]), (37, 0, .aload_n 0, 1, 0, 0, []), (38, 0, .getfield 614, 3, 8, 88, [0, 0, 7037]), (41, 0, .aload_n 0, 1, 0, 0, []), (42, 0, .getfield 17, 3, 8, 6, [2, 0, 6195]), (45, 0, .iload 4, 2, 0, 0, []), (47, 0, .baload, 1, 2, 0, []), (48, 0, .bastore, 1, 2, 0, []), (49, 0, .aload_n 0, 1, 0, 0, []), (50, 0, .dup, 1, 0, 0, []), (51, 0, .getfield 614, 3, 8, 88, [0, 0, 7037]), (54, 0, .iconst 1, 1, 0, 0, []), (55, 0, .iadd, 1, 0, 0, []), (56, 0, .putfield 614, 3, 8, 88, [0, 0, 7037]), (59, 0, .iinc 4 1, 3, 0, 0, []), (62, 0, .goto (-35), 3, 0, 0, []), (65, 0, .iconst 1, 1, 0, 0, []), (66, 0, .istore 4, 2, 0, 0, []), (68, 0, .aload_n 0, 1, 0, 0, []), (69, 0, .getfield 206, 3, 8, 94, [2, 0, 7043]), (72, 0, .iconst 1, 1, 0, 0, []), (73, 0, .aload_n 0, 1, 0, 0, []), (74, 0, .getfield 206, 3, 8, 94, [2, 0, 7043]), (77, 0, .iconst 1, 1, 0, 0, []), (78, 0, .iaload, 1, 0, 0, []), (79, 0, .ifCond .ge 10, 3, 0, 0, []), (82, 0, .aload_n 0, 1, 0, 0, []), (83, 0, .getfield 614, 3, 8, 88, [0, 0, 7037]), (86, 0, .goto 9, 3, 0, 0, []), (89, 0, .aload_n 0, 1, 0, 0, []), (90, 0, .getfield 206, 3, 8, 94, [2, 0, 7043]), (93, 0, .iconst 1, 1, 0, 0, []), (94, 0, .iaload, 1, 0, 0, []), (95, 5, .iastore, 1, 0, 0, []), (96, 0, .iload_n 2, 1, 0, 0, []), (97, 0, .iconst 1, 1, 0, 0, []), (98, 0, .isub, 1, 0, 0, []), (99, 0, .istore 5, 2, 0, 0, []), (101, 6, .iload 5, 2, 0, 0, []), (103, 0, .iload_n 3, 1, 0, 0, []), (104, 0, .if_icmp .lt 56, 3, 0, 0, []), (107, 0, .aload_n 0, 1, 0, 0, []), (108, 0, .iload 4, 2, 0, 0, []), (110, 0, .aload_n 0, 1, 0, 0, []), (111, 0, .getfield 17, 3, 8, 6, [2, 0, 6195]), (114, 0, .iload 5, 2, 0, 0, []), (116, 0, .baload, 1, 2, 0, []), (117, 0, .iconst 0, 1, 0, 0, []), (118, 0, .invokevirtual 610, 3, 259, 8, [9209]), (121, 0, .istore 4, 2, 0, 0, []), (123, 0, .aload_n 0, 1, 0, 0, []), (124, 0, .getfield 206, 3, 8, 94, [2, 0, 7043]), (127, 0, .iload 4, 2, 0, 0, []), (129, 0, .aload_n 0, 1, 0, 0, []), (130, 0, .getfield 206, 3, 8, 94, [2, 0, 7043]), (133, 0, .iload 4, 2, 0, 0, []), (135, 0, .iaload, 1, 0, 0, []), (136, 0, .ifCond .ge 10, 3, 0, 0, []), (139, 0, .aload_n 0, 1, 0, 0, []), (140, 0, .getfield 614, 3, 8, 88, [0, 0, 7037]), (143, 0, .goto 10, 3, 0, 0, []), (146, 0, .aload_n 0, 1, 0, 0, []), (147, 0, .getfield 206, 3, 8, 94, [2, 0, 7043]), (150, 0, .iload 4, 2, 0, 0, []), (152, 0, .iaload, 1, 0, 0, []), (153, 7, .iastore, 1, 0, 0, []), (154, 0, .iinc 5 (-1), 3, 0, 0, []), (157, 0, .goto (-56), 3, 0, 0, []), (160, 0, .return_, 1, 0, 0, [])]
def m_Model_toPool : List aT := [(0, [(0, 2), (1, 0), (2, 0)], []), (2, [(0, 2), (1, 0), (2, 0), (3, 0)], []), (24, [(0, 2), (2, 0), (3, 0)], []), (27, [(0, 2), (2, 0), (3, 0), (4, 0)], []), (95, [(0, 2), (2, 0), (3, 0), (4, 0)], [0, 0, 2]), (101, [(0, 2), (3, 0), (4, 0), (5, 0)], []), (153, [(0, 2), (3, 0), (4, 0), (5, 0)], [0, 0, 2])]
def B_Model_toPool_0 (X : Nat → List Int → AMem → Prop) (Q : Int → AMem → Prop) (x1 x2 : Int) (σ : AMem) : Prop :=
  X 1 [9790, x1, x2, x2] σ
def B_Model_toPool_1 (X : Nat → List Int → AMem → Prop) (Q : Int → AMem → Prop) (x1 x2 x3 : Int) (σ : AMem) : Prop :=
  (if x1 < x3 then
  am_r32 (x3 - 1) ∧ 0 ≤ (x3 - 1) ∧ (x3 - 1) < 65536 ∧ (if (σ 9793 (x3 - 1)) = 0 then
    X 2 [9790, x2, x3] σ
    else
    am_r32 (x3 + (-1)) ∧ X 1 [9790, x1, x2, (x3 + (-1))] σ)
  else
  X 2 [9790, x2, x3] σ)
def B_Model_toPool_2 (X : Nat → List Int → AMem → Prop) (Q : Int → AMem → Prop) (x2 x3 : Int) (σ : AMem) : Prop :=
  X 3 [9790, x2, x3, x3] σ
def B_Model_toPool_3 (X : Nat → List Int → AMem → Prop) (Q : Int → AMem → Prop) (x2 x3 x4 : Int) (σ : AMem) : Prop :=
  (if x2 < x4 then
  (0 : Int) ≤ 1 ∧ (1 : Int) < 65540 ∧ (if (σ 9853 1) < 0 then
    X 4 [9790, x2, x3, 1, (σ 9790 88), 1, 9853] σ
    else
    (0 : Int) ≤ 1 ∧ (1 : Int) < 65540 ∧ X 4 [9790, x2, x3, 1, (σ 9853 1), 1, 9853] σ)
  else
  0 ≤ x4 ∧ x4 < 65536 ∧ 0 ≤ (σ 9790 88) ∧ (σ 9790 88) < 65536 ∧ am_let (am_upd σ 9850 (σ 9790 88) (w8 (σ 9793 x4))) (fun σ1 => am_r32 ((σ1 9790 88) + 1) ∧ am_let (am_upd σ1 9790 88 ((σ1 9790 88) + 1)) (fun σ2 => am_r32 (x4 + 1) ∧ X 3 [9790, x2, x3, (x4 + 1)] σ2)))
def B_Model_toPool_4 (X : Nat → List Int → AMem → Prop) (Q : Int → AMem → Prop) (x2 x3 x4 s0 s1 s2 : Int) (σ : AMem) : Prop :=
  (if ly_k s2 = 1 then 0 ≤ s1 ∧ s1 < ly_l s2 ∧ am_let (am_upd σ s2 s1 s0) (fun σ1 => am_r32 (x2 - 1) ∧ X 5 [9790, x3, x4, (x2 - 1)] σ1) else False)
def B_Model_toPool_5 (X : Nat → List Int → AMem → Prop) (Q : Int → AMem → Prop) (x3 x4 x5 : Int) (σ : AMem) : Prop :=
  (if x5 < x3 then
  Q 0 σ
  else
  0 ≤ x5 ∧ x5 < 65536 ∧ T_Model_childOf [9790, x4, (σ 9793 x5), 0] σ (fun r1 σ2 => 0 ≤ r1 ∧ r1 < 65540 ∧ (if (σ2 9853 r1) < 0 then
    X 6 [9790, x3, r1, x5, (σ2 9790 88), r1, 9853] σ2
    else
    0 ≤ r1 ∧ r1 < 65540 ∧ X 6 [9790, x3, r1, x5, (σ2 9853 r1), r1, 9853] σ2)))
def B_Model_toPool_6 (X : Nat → List Int → AMem → Prop) (Q : Int → AMem → Prop) (x3 x4 x5 s0 s1 s2 : Int) (σ : AMem) : Prop :=
  (if ly_k s2 = 1 then 0 ≤ s1 ∧ s1 < ly_l s2 ∧ am_let (am_upd σ s2 s1 s0) (fun σ1 => am_r32 (x5 + (-1)) ∧ X 5 [9790, x3, x4, (x5 + (-1))] σ1) else False)
def B_Model_toPool : (Nat → List Int → AMem → Prop) → (Int → AMem → Prop) → Nat → List Int → AMem → Prop := fun X Q j v σ => am_sel [(am_v3 (fun t x1 x2 σ => if t = 9790 then B_Model_toPool_0 X Q x1 x2 σ else False)), (am_v4 (fun t x1 x2 x3 σ => if t = 9790 then B_Model_toPool_1 X Q x1 x2 x3 σ else False)), (am_v3 (fun t x2 x3 σ => if t = 9790 then B_Model_toPool_2 X Q x2 x3 σ else False)), (am_v4 (fun t x2 x3 x4 σ => if t = 9790 then B_Model_toPool_3 X Q x2 x3 x4 σ else False)), (am_v7 (fun t x2 x3 x4 s0 s1 s2 σ => if t = 9790 then B_Model_toPool_4 X Q x2 x3 x4 s0 s1 s2 σ else False)), (am_v4 (fun t x3 x4 x5 σ => if t = 9790 then B_Model_toPool_5 X Q x3 x4 x5 σ else False)), (am_v7 (fun t x3 x4 x5 s0 s1 s2 σ => if t = 9790 then B_Model_toPool_6 X Q x3 x4 x5 s0 s1 s2 σ else False))] j v σ
def T_Model_toPool : List Int → AMem → (Int → AMem → Prop) → Prop := am_T B_Model_toPool
abbrev y_Model_toPool : MethodName := ⟨"LinkHouseModel", "toPool", "(II)V"⟩
def a_Model_toPool : AC := (261, (y_Model_toPool, prog_10_method_92_code, 6, (Option.none : Option Jvm.ClassFile.FieldType)), [2, 0, 0], 3, false, { frames := 1, cells := 0, slots := 0, locals := 32 }, T_Model_toPool)
set_option maxRecDepth 100000 in
theorem ms_Model_toPool : am_MSp a_Model_toPool := am_ms_v 9216 9 9215 110002 8 rfl (by decide +kernel)
abbrev k_Model_toPool : List AC := [a_Model_childOf]
set_option maxRecDepth 100000 in
theorem s_Model_toPool : (am_chkR { frames := 1, cells := 0, slots := 0, locals := 32 } k_Model_toPool && am_chkN c_Model_toPool { frames := 1, cells := 0, slots := 0, locals := 32 } && c_Model_toPool.all (am_chk "LinkHouseModel" prog_10_method_92_code 6 (Option.none : Option Jvm.ClassFile.FieldType) k_Model_toPool) && c_Model_toPool.all (am_chkL m_Model_toPool) && decide (m_Model_toPool[0]? = some (0, am_argp 0 [2, 0, 0], [])) && decide (am_argn [2, 0, 0] ≤ 6)) = true := by decide +kernel
set_option maxHeartbeats 150000 in
set_option maxRecDepth 100000 in
theorem h_Model_toPool : ∀ X Q j v σ, B_Model_toPool X Q j v σ → am_at GR k_Model_toPool c_Model_toPool m_Model_toPool X Q 94 j v σ := fun X Q => am_sel_all (P := fun j v σ => am_at GR k_Model_toPool c_Model_toPool m_Model_toPool X Q 94 j v σ) (⟨(am_v3_of (fun t x1 x2 σ h => am_tk (fun e => by subst e; exact fun h => h) h)), ⟨(am_v4_of (fun t x1 x2 x3 σ h => am_tk (fun e => by subst e; exact fun h => h) h)), ⟨(am_v3_of (fun t x2 x3 σ h => am_tk (fun e => by subst e; exact fun h => h) h)), ⟨(am_v4_of (fun t x2 x3 x4 σ h => am_tk (fun e => by subst e; exact fun h => h) h)), ⟨(am_v7_of (fun t x2 x3 x4 s0 s1 s2 σ h => am_tk (fun e => by subst e; exact fun h => h) h)), ⟨(am_v4_of (fun t x3 x4 x5 σ h => am_tk (fun e => by subst e; exact fun h => h) h)), ⟨(am_v7_of (fun t x3 x4 x5 s0 s1 s2 σ h => am_tk (fun e => by subst e; exact fun h => h) h)), trivial⟩⟩⟩⟩⟩⟩⟩)
set_option maxRecDepth 100000 in
theorem S_Model_toPool (l : Launch) (w : AW) : am_S l w GR a_Model_toPool := am_sound (rt := 3) (cal := k_Model_toPool) 261 y_Model_toPool prog_10_method_92_code 6 (Option.none : Option Jvm.ClassFile.FieldType) [2, 0, 0] false { frames := 1, cells := 0, slots := 0, locals := 32 } B_Model_toPool "LinkHouseModel" c_Model_toPool m_Model_toPool 94 ms_Model_toPool (by decide +kernel) rfl rfl (am_cal (S_Model_childOf l w) (fun _ h => absurd h List.not_mem_nil)) s_Model_toPool h_Model_toPool
set_option maxRecDepth 100000 in
theorem of_Model_toPool {Q : Int → AMem → Prop} {x1 x2 : Int} {σ : AMem} (h : ∀ X : Nat → List Int → AMem → Prop, (∀ (x1 x2 : Int) (σ : AMem), B_Model_toPool_0 X Q x1 x2 σ → X 0 [9790, x1, x2] σ) → (∀ (x1 x2 x3 : Int) (σ : AMem), B_Model_toPool_1 X Q x1 x2 x3 σ → X 1 [9790, x1, x2, x3] σ) → (∀ (x2 x3 : Int) (σ : AMem), B_Model_toPool_2 X Q x2 x3 σ → X 2 [9790, x2, x3] σ) → (∀ (x2 x3 x4 : Int) (σ : AMem), B_Model_toPool_3 X Q x2 x3 x4 σ → X 3 [9790, x2, x3, x4] σ) → (∀ (x2 x3 x4 s0 s1 s2 : Int) (σ : AMem), B_Model_toPool_4 X Q x2 x3 x4 s0 s1 s2 σ → X 4 [9790, x2, x3, x4, s0, s1, s2] σ) → (∀ (x3 x4 x5 : Int) (σ : AMem), B_Model_toPool_5 X Q x3 x4 x5 σ → X 5 [9790, x3, x4, x5] σ) → (∀ (x3 x4 x5 s0 s1 s2 : Int) (σ : AMem), B_Model_toPool_6 X Q x3 x4 x5 s0 s1 s2 σ → X 6 [9790, x3, x4, x5, s0, s1, s2] σ) → X 0 [9790, x1, x2] σ) : T_Model_toPool [9790, x1, x2] σ Q := fun X hX => h X (fun x1 x2 σ h => hX 0 [9790, x1, x2] σ h) (fun x1 x2 x3 σ h => hX 1 [9790, x1, x2, x3] σ h) (fun x2 x3 σ h => hX 2 [9790, x2, x3] σ h) (fun x2 x3 x4 σ h => hX 3 [9790, x2, x3, x4] σ h) (fun x2 x3 x4 s0 s1 s2 σ h => hX 4 [9790, x2, x3, x4, s0, s1, s2] σ h) (fun x3 x4 x5 σ h => hX 5 [9790, x3, x4, x5] σ h) (fun x3 x4 x5 s0 s1 s2 σ h => hX 6 [9790, x3, x4, x5, s0, s1, s2] σ h)
def c_Model_findPool : List aE := [(0, 1, .aload_n 0, 1, 0, 0, []), (1, 0, .iconst 2, 1, 0, 0, []), (2, 0, .putfield 607, 3, 8, 89, [0, 0, 7038]), (5, 0, .aload_n 0, 1, 0, 0, []), (6, 0, .getfield 200, 3, 8, 92, [2, 0, 7041]), (9, 0, .iconst 1, 1, 0, 0, []), (10, 0, .iconst 0, 1, 0, 0, []), (11, 0, .iastore, 1, 0, 0, []), (12, 0, .aload_n 0, 1, 0, 0, []), (13, 0, .getfield 206, 3, 8, 94, [2, 0, 7043]), (16, 0, .iconst 1, 1, 0, 0, []), (17, 0, .iconst (-1), 1, 0, 0, []), (18, 0, .iastore, 1, 0, 0, []), (19, 0, .aload_n 0, 1, 0, 0, []), (20, 0, .iconst 0, 1, 0, 0, []), (21, 0, .putfield 614, 3, 8, 88, [0, 0, 7037]), (24, 0, .iconst 0, 1, 0, 0, []), (25, 0, .istore_n 1, 1, 0, 0, []), (26, 2, .iload_n 1, 1, 0, 0, []), (27, 0, .iconst 2, 1, 0, 0, []), (28, 0, .if_icmp .ge 150, 3, 0, 0, []), (31, 0, .iconst 0, 1, 0, 0, []), (32, 0, .istore_n 2, 1, 0, 0, []), (33, 3, .iload_n 2, 1, 0, 0, []), (34, 0, .aload_n 0, 1, 0, 0, []), (35, 0, .getfield 601, 3, 8, 50, [0, 0, 6239]), (38, 0, .if_icmp .ge 134, 3, 0, 0, []), (41, 0, .aload_n 0, 1, 0, 0, []), (42, 0, .aload_n 0, 1, 0, 0, []), (43, 0, .getfield 127, 3, 8, 51, [2, 0, 7000]), (46, 0, .iload_n 2, 1, 0, 0, []), (47, 0, .iaload, 1, 0, 0, []), (48, 0, .invokevirtual 503, 3, 236, 8, [9124]), (51, 0, .istore_n 3, 1, 0, 0, []), (52, 0, .aload_n 0, 1, 0, 0, []), (53, 0, .iload_n 3, 1, 0, 0, []), (54, 0, .aload_n 0, 1, 0, 0, []), (55, 0, .getfield 136, 3, 8, 54, [2, 0, 7003]), (58, 0, .iload_n 2, 1, 0, 0, []), (59, 0, .iaload, 1, 0, 0, []), (60, 0, .invokevirtual 617, 3, 258, 8, [9201]), (63, 0, .ifCond .ne 6, 3, 0, 0, []), (66, 0, .goto 100, 3, 0, 0, []), (69, 0, .iload_n 3, 1, 0, 0, []), (70, 0, .aload_n 0, 1, 0, 0, []), (71, 0, .iload_n 3, 1, 0, 0, []), (72, 0, .aload_n 0, 1, 0, 0, []), (73, 0, .getfield 136, 3, 8, 54, [2, 0, 7003]), (76, 0, .iload_n 2, 1, 0, 0, []), (77, 0, .iaload, 1, 0, 0, []), (78, 0, .invokevirtual 323, 3, 189, 8, [8156]), (81, 0, .l2i, 1, 0, 0, []), (82, 0, .iadd, 1, 0, 0, []), (83, 0, .istore 4, 2, 0, 0, []), (85, 0, .iload 4, 2, 0, 0, []), (87, 0, .istore 5, 2, 0, 0, []), (89, 4, .iload 5, 2, 0, 0, []), (91, 0, .iload 4, 2, 0, 0, []), (93, 0, .aload_n 0, 1, 0, 0, []), (94, 0, .getfield 142, 3, 8, 56, [2, 0, 7005]), (97, 0, .iload_n 2, 1, 0, 0, []), (98, 0, .iaload, 1, 0, 0, []), (99, 0, .iadd, 1, 0, 0, []), (100, 0, .if_icmp .ge 66, 3, 0, 0, []), (103, 0, .aload_n 0, 1, 0, 0, []), (104, 0, .getfield 17, 3, 8, 6, [2, 0, 6195]), (107, 0, .iload 5, 2, 0, 0, []), (109, 0, .baload, 1, 2, 0, []), (110, 0, .ifCond .eq 6, 3, 0, 0, []), (113, 0, .goto 47, 3, 0, 0, []), (116, 0, .aload_n 0, 1, 0, 0, []), (117, 0, .iload 4, 2, 0, 0, []), (119, 0, .iload 5, 2, 0, 0, []), (121, 0, .iconst 1, 1, 0, 0, []), (122, 0, .invokevirtual 620, 3, 260, 8, [9205]), (125, 0, .istore 6, 2, 0, 0, []), (127, 0, .iload_n 1, 1, 0, 0, []), (128, 0, .iconst 1, 1, 0, 0, []), (129, 0, .if_icmp .ne 31, 3, 0, 0, []), (132, 0, .aload_n 0, 1, 0, 0, []), (133, 0, .getfield 200, 3, 8, 92, [2, 0, 7041]), (136, 0, .iload 6, 2, 0, 0, []), (138, 0, .iaload, 1, 0, 0, []), (139, 0, .ifCond .ne 21, 3, 0, 0, []), (142, 0, .aload_n 0, 1, 0, 0, []), (143, 0, .getfield 206, 3, 8, 94, [2, 0, 7043]), (146, 0, .iload 6, 2, 0, 0, []), (148, 0, .iaload, 1, 0, 0, []), (149, 0, .ifCond .ge 11, 3, 0, 0, []), (152, 0, .aload_n 0, 1, 0, 0, []), (153, 0, .iload 4, 2, 0, 0, []), (155, 0, .iload 5, 2, 0, 0, []), (157, 0, .invokevirtual 623, 3, 261, 8, [9213]), (160, 5, .iinc 5 1, 3, 0, 0, []), (163, 0, .goto (-74), 3, 0, 0, []), (166, 6, .iinc 2 1, 3, 0, 0, []), (169, 0, .goto (-136), 3, 0, 0, []), (172, 0, .iinc 1 1, 3, 0, 0, []), (175, 0, .goto (-149), 3, 0, 0, []), (178, 0, .return_, 1, 0, 0, [])]
def m_Model_findPool : List aT := [(0, [(0, 2)], []), (26, [(0, 2), (1, 0)], []), (33, [(0, 2), (1, 0), (2, 0)], []), (89, [(0, 2), (1, 0), (2, 0), (4, 0), (5, 0)], []), (160, [(0, 2), (1, 0), (2, 0), (4, 0), (5, 0)], []), (166, [(0, 2), (1, 0), (2, 0)], [])]
def B_Model_findPool_0 (X : Nat → List Int → AMem → Prop) (Q : Int → AMem → Prop) (σ : AMem) : Prop :=
  am_let (am_upd σ 9790 89 2) (fun σ1 => (0 : Int) ≤ 1 ∧ (1 : Int) < 65540 ∧ am_let (am_upd σ1 9851 1 0) (fun σ2 => (0 : Int) ≤ 1 ∧ (1 : Int) < 65540 ∧ am_let (am_upd σ2 9853 1 (-1)) (fun σ3 => am_let (am_upd σ3 9790 88 0) (fun σ4 => X 1 [9790, 0] σ4))))
def B_Model_findPool_1 (X : Nat → List Int → AMem → Prop) (Q : Int → AMem → Prop) (x1 : Int) (σ : AMem) : Prop :=
  (if x1 < 2 then
  X 2 [9790, x1, 0] σ
  else
  Q 0 σ)
def B_Model_findPool_2 (X : Nat → List Int → AMem → Prop) (Q : Int → AMem → Prop) (x1 x2 : Int) (σ : AMem) : Prop :=
  (if x2 < (σ 9790 50) then
  0 ≤ x2 ∧ x2 < 1536 ∧ T_Model_object [9790, (σ 9827 x2)] σ (fun r1 σ2 => 0 ≤ x2 ∧ x2 < 1536 ∧ T_Model_isStrings [9790, r1, (σ2 9830 x2)] σ2 (fun r3 σ4 => (if r3 = 0 then
    X 5 [9790, x1, x2] σ4
    else
    0 ≤ x2 ∧ x2 < 1536 ∧ T_Model_beginning [9790, r1, (σ4 9830 x2)] σ4 (fun r5 σ6 => am_r32 (r1 + (w32 r5)) ∧ X 3 [9790, x1, x2, (r1 + (w32 r5)), (r1 + (w32 r5))] σ6))))
  else
  am_r32 (x1 + 1) ∧ X 1 [9790, (x1 + 1)] σ)
def B_Model_findPool_3 (X : Nat → List Int → AMem → Prop) (Q : Int → AMem → Prop) (x1 x2 x4 x5 : Int) (σ : AMem) : Prop :=
  0 ≤ x2 ∧ x2 < 1536 ∧ am_r32 (x4 + (σ 9832 x2)) ∧ (if x5 < (x4 + (σ 9832 x2)) then
  0 ≤ x5 ∧ x5 < 65536 ∧ (if (σ 9793 x5) = 0 then
    T_Model_nodeOf [9790, x4, x5, 1] σ (fun r1 σ2 => (if x1 = 1 then
      0 ≤ r1 ∧ r1 < 65540 ∧ (if (σ2 9851 r1) = 0 then
        0 ≤ r1 ∧ r1 < 65540 ∧ (if (σ2 9853 r1) < 0 then
          T_Model_toPool [9790, x4, x5] σ2 (fun r3 σ4 => X 4 [9790, x1, x2, x4, x5] σ4)
          else
          X 4 [9790, x1, x2, x4, x5] σ2)
        else
        X 4 [9790, x1, x2, x4, x5] σ2)
      else
      X 4 [9790, x1, x2, x4, x5] σ2))
    else
    X 4 [9790, x1, x2, x4, x5] σ)
  else
  X 5 [9790, x1, x2] σ)
def B_Model_findPool_4 (X : Nat → List Int → AMem → Prop) (Q : Int → AMem → Prop) (x1 x2 x4 x5 : Int) (σ : AMem) : Prop :=
  am_r32 (x5 + 1) ∧ X 3 [9790, x1, x2, x4, (x5 + 1)] σ
def B_Model_findPool_5 (X : Nat → List Int → AMem → Prop) (Q : Int → AMem → Prop) (x1 x2 : Int) (σ : AMem) : Prop :=
  am_r32 (x2 + 1) ∧ X 2 [9790, x1, (x2 + 1)] σ
def B_Model_findPool : (Nat → List Int → AMem → Prop) → (Int → AMem → Prop) → Nat → List Int → AMem → Prop := fun X Q j v σ => am_sel [(am_v1 (fun t σ => if t = 9790 then B_Model_findPool_0 X Q σ else False)), (am_v2 (fun t x1 σ => if t = 9790 then B_Model_findPool_1 X Q x1 σ else False)), (am_v3 (fun t x1 x2 σ => if t = 9790 then B_Model_findPool_2 X Q x1 x2 σ else False)), (am_v5 (fun t x1 x2 x4 x5 σ => if t = 9790 then B_Model_findPool_3 X Q x1 x2 x4 x5 σ else False)), (am_v5 (fun t x1 x2 x4 x5 σ => if t = 9790 then B_Model_findPool_4 X Q x1 x2 x4 x5 σ else False)), (am_v3 (fun t x1 x2 σ => if t = 9790 then B_Model_findPool_5 X Q x1 x2 σ else False))] j v σ
def T_Model_findPool : List Int → AMem → (Int → AMem → Prop) → Prop := am_T B_Model_findPool
abbrev y_Model_findPool : MethodName := ⟨"LinkHouseModel", "findPool", "()V"⟩
def a_Model_findPool : AC := (262, (y_Model_findPool, prog_10_method_93_code, 7, (Option.none : Option Jvm.ClassFile.FieldType)), [2], 3, false, { frames := 5, cells := 0, slots := 0, locals := 156 }, T_Model_findPool)
set_option maxRecDepth 100000 in
theorem ms_Model_findPool : am_MSp a_Model_findPool := am_ms_v 9200 9 9199 109014 8 rfl (by decide +kernel)
abbrev k_Model_findPool : List AC := [a_Model_object, a_Model_isStrings, a_Model_beginning, a_Model_nodeOf, a_Model_toPool]
set_option maxRecDepth 100000 in
theorem s_Model_findPool : (am_chkR { frames := 5, cells := 0, slots := 0, locals := 156 } k_Model_findPool && am_chkN c_Model_findPool { frames := 5, cells := 0, slots := 0, locals := 156 } && c_Model_findPool.all (am_chk "LinkHouseModel" prog_10_method_93_code 7 (Option.none : Option Jvm.ClassFile.FieldType) k_Model_findPool) && c_Model_findPool.all (am_chkL m_Model_findPool) && decide (m_Model_findPool[0]? = some (0, am_argp 0 [2], [])) && decide (am_argn [2] ≤ 7)) = true := by decide +kernel
set_option maxHeartbeats 150000 in
set_option maxRecDepth 100000 in
theorem h_Model_findPool : ∀ X Q j v σ, B_Model_findPool X Q j v σ → am_at GR k_Model_findPool c_Model_findPool m_Model_findPool X Q 105 j v σ := fun X Q => am_sel_all (P := fun j v σ => am_at GR k_Model_findPool c_Model_findPool m_Model_findPool X Q 105 j v σ) (⟨(am_v1_of (fun t σ h => am_tk (fun e => by subst e; exact fun h => h) h)), ⟨(am_v2_of (fun t x1 σ h => am_tk (fun e => by subst e; exact fun h => h) h)), ⟨(am_v3_of (fun t x1 x2 σ h => am_tk (fun e => by subst e; exact fun h => h) h)), ⟨(am_v5_of (fun t x1 x2 x4 x5 σ h => am_tk (fun e => by subst e; exact fun h => h) h)), ⟨(am_v5_of (fun t x1 x2 x4 x5 σ h => am_tk (fun e => by subst e; exact fun h => h) h)), ⟨(am_v3_of (fun t x1 x2 σ h => am_tk (fun e => by subst e; exact fun h => h) h)), trivial⟩⟩⟩⟩⟩⟩)
set_option maxRecDepth 100000 in
theorem S_Model_findPool (l : Launch) (w : AW) : am_S l w GR a_Model_findPool := am_sound (rt := 3) (cal := k_Model_findPool) 262 y_Model_findPool prog_10_method_93_code 7 (Option.none : Option Jvm.ClassFile.FieldType) [2] false { frames := 5, cells := 0, slots := 0, locals := 156 } B_Model_findPool "LinkHouseModel" c_Model_findPool m_Model_findPool 105 ms_Model_findPool (by decide +kernel) rfl rfl (am_cal (S_Model_object l w) (am_cal (S_Model_isStrings l w) (am_cal (S_Model_beginning l w) (am_cal (S_Model_nodeOf l w) (am_cal (S_Model_toPool l w) (fun _ h => absurd h List.not_mem_nil)))))) s_Model_findPool h_Model_findPool
set_option maxRecDepth 100000 in
theorem of_Model_findPool {Q : Int → AMem → Prop} {σ : AMem} (h : ∀ X : Nat → List Int → AMem → Prop, (∀ (σ : AMem), B_Model_findPool_0 X Q σ → X 0 [9790] σ) → (∀ (x1 : Int) (σ : AMem), B_Model_findPool_1 X Q x1 σ → X 1 [9790, x1] σ) → (∀ (x1 x2 : Int) (σ : AMem), B_Model_findPool_2 X Q x1 x2 σ → X 2 [9790, x1, x2] σ) → (∀ (x1 x2 x4 x5 : Int) (σ : AMem), B_Model_findPool_3 X Q x1 x2 x4 x5 σ → X 3 [9790, x1, x2, x4, x5] σ) → (∀ (x1 x2 x4 x5 : Int) (σ : AMem), B_Model_findPool_4 X Q x1 x2 x4 x5 σ → X 4 [9790, x1, x2, x4, x5] σ) → (∀ (x1 x2 : Int) (σ : AMem), B_Model_findPool_5 X Q x1 x2 σ → X 5 [9790, x1, x2] σ) → X 0 [9790] σ) : T_Model_findPool [9790] σ Q := fun X hX => h X (fun σ h => hX 0 [9790] σ h) (fun x1 σ h => hX 1 [9790, x1] σ h) (fun x1 x2 σ h => hX 2 [9790, x1, x2] σ h) (fun x1 x2 x4 x5 σ h => hX 3 [9790, x1, x2, x4, x5] σ h) (fun x1 x2 x4 x5 σ h => hX 4 [9790, x1, x2, x4, x5] σ h) (fun x1 x2 σ h => hX 5 [9790, x1, x2] σ h)
def c_Model_isSectionNow : List aE := [(0, 1, .iload_n 2, 1, 0, 0, []), (1, 0, .ifCond .le 33, 3, 0, 0, []), (4, 0, .iload_n 2, 1, 0, 0, []), (5, 0, .aload_n 0, 1, 0, 0, []), (6, 0, .aload_n 0, 1, 0, 0, []), (7, 0, .iload_n 1, 1, 0, 0, []), (8, 0, .invokevirtual 503, 3, 236, 8, [9124]), (11, 0, .invokevirtual 313, 3, 185, 8, [8136]), (14, 0, .if_icmp .ge 20, 3, 0, 0, []), (17, 0, .aload_n 0, 1, 0, 0, []), (18, 0, .aload_n 0, 1, 0, 0, []), (19, 0, .iload_n 1, 1, 0, 0, []), (20, 0, .invokevirtual 503, 3, 236, 8, [9124]), (23, 0, .iload_n 2, 1, 0, 0, []), (24, 0, .invokevirtual 347, 3, 192, 8, [8164]), (27, 0, .ifCond .eq 7, 3, 0, 0, []), (30, 0, .iconst 1, 1, 0, 0, []), (31, 0, .goto 4, 3, 0, 0, []), (34, 0, .iconst 0, 1, 0, 0, []), (35, 0, .ireturn, 1, 1, 0, [])]
def m_Model_isSectionNow : List aT := [(0, [(0, 2), (1, 0), (2, 0)], [])]
def B_Model_isSectionNow_0 (X : Nat → List Int → AMem → Prop) (Q : Int → AMem → Prop) (x1 x2 : Int) (σ : AMem) : Prop :=
  (if 0 < x2 then
  T_Model_object [9790, x1] σ (fun r1 σ2 => T_Model_sections [9790, r1] σ2 (fun r3 σ4 => (if x2 < r3 then
    T_Model_object [9790, x1] σ4 (fun r5 σ6 => T_Model_isKept [9790, r5, x2] σ6 (fun r7 σ8 => (if r7 = 0 then
      Q 0 σ8
      else
      Q 1 σ8)))
    else
    Q 0 σ4)))
  else
  Q 0 σ)
def B_Model_isSectionNow : (Nat → List Int → AMem → Prop) → (Int → AMem → Prop) → Nat → List Int → AMem → Prop := fun X Q j v σ => am_sel [(am_v3 (fun t x1 x2 σ => if t = 9790 then B_Model_isSectionNow_0 X Q x1 x2 σ else False))] j v σ
def T_Model_isSectionNow : List Int → AMem → (Int → AMem → Prop) → Prop := am_T B_Model_isSectionNow
abbrev y_Model_isSectionNow : MethodName := ⟨"LinkHouseModel", "isSectionNow", "(II)Z"⟩
def a_Model_isSectionNow : AC := (263, (y_Model_isSectionNow, prog_10_method_79_code, 3, (Option.some Jvm.ClassFile.FieldType.boolean)), [2, 0, 0], 0, false, { frames := 4, cells := 0, slots := 0, locals := 123 }, T_Model_isSectionNow)
set_option maxRecDepth 100000 in
theorem ms_Model_isSectionNow : am_MSp a_Model_isSectionNow := am_ms_v 9237 9 9236 110007 8 rfl (by decide +kernel)
abbrev k_Model_isSectionNow : List AC := [a_Model_object, a_Model_sections, a_Model_isKept]
set_option maxRecDepth 100000 in
theorem s_Model_isSectionNow : (am_chkR { frames := 4, cells := 0, slots := 0, locals := 123 } k_Model_isSectionNow && am_chkN c_Model_isSectionNow { frames := 4, cells := 0, slots := 0, locals := 123 } && c_Model_isSectionNow.all (am_chk "LinkHouseModel" prog_10_method_79_code 3 (Option.some Jvm.ClassFile.FieldType.boolean) k_Model_isSectionNow) && c_Model_isSectionNow.all (am_chkL m_Model_isSectionNow) && decide (m_Model_isSectionNow[0]? = some (0, am_argp 0 [2, 0, 0], [])) && decide (am_argn [2, 0, 0] ≤ 3)) = true := by decide +kernel
set_option maxHeartbeats 150000 in
set_option maxRecDepth 100000 in
theorem h_Model_isSectionNow : ∀ X Q j v σ, B_Model_isSectionNow X Q j v σ → am_at GR k_Model_isSectionNow c_Model_isSectionNow m_Model_isSectionNow X Q 25 j v σ := fun X Q => am_sel_all (P := fun j v σ => am_at GR k_Model_isSectionNow c_Model_isSectionNow m_Model_isSectionNow X Q 25 j v σ) (⟨(am_v3_of (fun t x1 x2 σ h => am_tk (fun e => by subst e; exact fun h => h) h)), trivial⟩)
set_option maxRecDepth 100000 in
theorem S_Model_isSectionNow (l : Launch) (w : AW) : am_S l w GR a_Model_isSectionNow := am_sound (rt := 0) (cal := k_Model_isSectionNow) 263 y_Model_isSectionNow prog_10_method_79_code 3 (Option.some Jvm.ClassFile.FieldType.boolean) [2, 0, 0] false { frames := 4, cells := 0, slots := 0, locals := 123 } B_Model_isSectionNow "LinkHouseModel" c_Model_isSectionNow m_Model_isSectionNow 25 ms_Model_isSectionNow (by decide +kernel) rfl rfl (am_cal (S_Model_object l w) (am_cal (S_Model_sections l w) (am_cal (S_Model_isKept l w) (fun _ h => absurd h List.not_mem_nil)))) s_Model_isSectionNow h_Model_isSectionNow
set_option maxRecDepth 100000 in
theorem of_Model_isSectionNow {Q : Int → AMem → Prop} {x1 x2 : Int} {σ : AMem} (h : ∀ X : Nat → List Int → AMem → Prop, (∀ (x1 x2 : Int) (σ : AMem), B_Model_isSectionNow_0 X Q x1 x2 σ → X 0 [9790, x1, x2] σ) → X 0 [9790, x1, x2] σ) : T_Model_isSectionNow [9790, x1, x2] σ Q := fun X hX => h X (fun x1 x2 σ h => hX 0 [9790, x1, x2] σ h)
set_option maxRecDepth 100000 in
theorem iff_Model_isSectionNow {Q : Int → AMem → Prop} {X : Nat → List Int → AMem → Prop} {x1 x2 : Int} {σ : AMem} : T_Model_isSectionNow [9790, x1, x2] σ Q ↔ B_Model_isSectionNow_0 X Q x1 x2 σ := ⟨fun h => h (fun j v σ => B_Model_isSectionNow X Q j v σ) (fun _ _ _ q => q), fun h _ hX => hX 0 _ _ h⟩
def c_Model_isInside : List aE := [(0, 1, .iload_n 2, 1, 0, 0, []), (1, 0, .ifCond .ne 5, 3, 0, 0, []), (4, 0, .iconst 0, 1, 0, 0, []), (5, 0, .ireturn, 1, 1, 0, []), (6, 0, .aload_n 0, 1, 0, 0, []), (7, 0, .iload_n 1, 1, 0, 0, []), (8, 0, .invokevirtual 503, 3, 236, 8, [9124]), (11, 0, .istore_n 3, 1, 0, 0, []), (12, 0, .aload_n 0, 1, 0, 0, []), (13, 0, .iload_n 3, 1, 0, 0, []), (14, 0, .iload_n 2, 1, 0, 0, []), (15, 0, .invokevirtual 375, 3, 201, 8, [8213]), (18, 0, .ifCond .ne 15, 3, 0, 0, []), (21, 0, .aload_n 0, 1, 0, 0, []), (22, 0, .iload_n 1, 1, 0, 0, []), (23, 0, .aload_n 0, 1, 0, 0, []), (24, 0, .iload_n 1, 1, 0, 0, []), (25, 0, .iload_n 2, 1, 0, 0, []), (26, 0, .invokevirtual 506, 3, 240, 8, [9144]), (29, 0, .invokevirtual 580, 3, 263, 8, [9234]), (32, 0, .ireturn, 1, 1, 0, []), (33, 0, .aload_n 0, 1, 0, 0, []), (34, 0, .iload_n 3, 1, 0, 0, []), (35, 0, .iload_n 2, 1, 0, 0, []), (36, 0, .invokevirtual 541, 3, 234, 8, [9104]), (39, 0, .istore 4, 2, 0, 0, []), (41, 0, .aload_n 0, 1, 0, 0, []), (42, 0, .getfield 60, 3, 8, 23, [2, 0, 6212]), (45, 0, .iload 4, 2, 0, 0, []), (47, 0, .iaload, 1, 0, 0, []), (48, 0, .iconst 2, 1, 0, 0, []), (49, 0, .if_icmp .ne 5, 3, 0, 0, []), (52, 0, .iconst 1, 1, 0, 0, []), (53, 0, .ireturn, 1, 1, 0, []), (54, 0, .aload_n 0, 1, 0, 0, []), (55, 0, .getfield 60, 3, 8, 23, [2, 0, 6212]), (58, 0, .iload 4, 2, 0, 0, []), (60, 0, .iaload, 1, 0, 0, []), (61, 0, .iconst 1, 1, 0, 0, []), (62, 0, .if_icmp .eq 23, 3, 0, 0, []), (65, 0, .aload_n 0, 1, 0, 0, []), (66, 0, .getfield 60, 3, 8, 23, [2, 0, 6212]), (69, 0, .iload 4, 2, 0, 0, []), (71, 0, .iaload, 1, 0, 0, []), (72, 0, .iconst 3, 1, 0, 0, []), (73, 0, .if_icmp .ne 48, 3, 0, 0, []), (76, 0, .aload_n 0, 1, 0, 0, []), (77, 0, .iload 4, 2, 0, 0, []), (79, 0, .invokevirtual 560, 3, 250, 8, [9172]), (82, 0, .ifCond .ne 39, 3, 0, 0, []), (85, 2, .aload_n 0, 1, 0, 0, []), (86, 0, .aload_n 0, 1, 0, 0, []), (87, 0, .getfield 63, 3, 8, 24, [2, 0, 6213]), (90, 0, .iload 4, 2, 0, 0, []), (92, 0, .iaload, 1, 0, 0, []), (93, 0, .aload_n 0, 1, 0, 0, []), (94, 0, .aload_n 0, 1, 0, 0, []), (95, 0, .getfield 63, 3, 8, 24, [2, 0, 6213]), (98, 0, .iload 4, 2, 0, 0, []), (100, 0, .iaload, 1, 0, 0, []), (101, 0, .aload_n 0, 1, 0, 0, []), (102, 0, .getfield 66, 3, 8, 25, [2, 0, 6214]), (105, 0, .iload 4, 2, 0, 0, []), (107, 0, .iaload, 1, 0, 0, []), (108, 0, .invokevirtual 506, 3, 240, 8, [9144]), (111, 0, .invokevirtual 580, 3, 263, 8, [9234]), (114, 0, .ifCond .eq 7, 3, 0, 0, []), (117, 0, .iconst 1, 1, 0, 0, []), (118, 0, .goto 4, 3, 0, 0, []), (121, 0, .iconst 0, 1, 0, 0, []), (122, 0, .ireturn, 1, 1, 0, [])]
def m_Model_isInside : List aT := [(0, [(0, 2), (1, 0), (2, 0)], []), (85, [(0, 2), (4, 0)], [])]
def B_Model_isInside_0 (X : Nat → List Int → AMem → Prop) (Q : Int → AMem → Prop) (x1 x2 : Int) (σ : AMem) : Prop :=
  (if x2 = 0 then
  Q 0 σ
  else
  T_Model_object [9790, x1] σ (fun r1 σ2 => T_Model_bind [9790, r1, x2] σ2 (fun r3 σ4 => (if r3 = 0 then
    T_Model_whereNow [9790, x1, x2] σ4 (fun r9 σ10 => T_Model_isSectionNow [9790, x1, r9] σ10 (fun r11 σ12 => (if r11 = 0 ∨ r11 = 1 then Q r11 σ12 else False)))
    else
    T_Model_nameOf [9790, r1, x2] σ4 (fun r5 σ6 => 0 ≤ r5 ∧ r5 < 4096 ∧ (if (σ6 9805 r5) = 2 then
      Q 1 σ6
      else
      0 ≤ r5 ∧ r5 < 4096 ∧ (if (σ6 9805 r5) = 1 then
        X 1 [9790, r5] σ6
        else
        0 ≤ r5 ∧ r5 < 4096 ∧ (if (σ6 9805 r5) = 3 then
          T_Model_isGiven [9790, r5] σ6 (fun r7 σ8 => (if r7 = 0 then
            X 1 [9790, r5] σ8
            else
            Q 0 σ8))
          else
          Q 0 σ6))))))))
def B_Model_isInside_1 (X : Nat → List Int → AMem → Prop) (Q : Int → AMem → Prop) (x4 : Int) (σ : AMem) : Prop :=
  0 ≤ x4 ∧ x4 < 4096 ∧ 0 ≤ x4 ∧ x4 < 4096 ∧ 0 ≤ x4 ∧ x4 < 4096 ∧ T_Model_whereNow [9790, (σ 9806 x4), (σ 9807 x4)] σ (fun r1 σ2 => T_Model_isSectionNow [9790, (σ 9806 x4), r1] σ2 (fun r3 σ4 => (if r3 = 0 then
  Q 0 σ4
  else
  Q 1 σ4)))
def B_Model_isInside : (Nat → List Int → AMem → Prop) → (Int → AMem → Prop) → Nat → List Int → AMem → Prop := fun X Q j v σ => am_sel [(am_v3 (fun t x1 x2 σ => if t = 9790 then B_Model_isInside_0 X Q x1 x2 σ else False)), (am_v2 (fun t x4 σ => if t = 9790 then B_Model_isInside_1 X Q x4 σ else False))] j v σ
def T_Model_isInside : List Int → AMem → (Int → AMem → Prop) → Prop := am_T B_Model_isInside
abbrev y_Model_isInside : MethodName := ⟨"LinkHouseModel", "isInside", "(II)Z"⟩
def a_Model_isInside : AC := (264, (y_Model_isInside, prog_10_method_78_code, 5, (Option.some Jvm.ClassFile.FieldType.boolean)), [2, 0, 0], 0, false, { frames := 8, cells := 0, slots := 0, locals := 244 }, T_Model_isInside)
set_option maxRecDepth 100000 in
theorem ms_Model_isInside : am_MSp a_Model_isInside := am_ms_v 9233 9 9232 110006 8 rfl (by decide +kernel)
abbrev k_Model_isInside : List AC := [a_Model_object, a_Model_bind, a_Model_whereNow, a_Model_isSectionNow, a_Model_nameOf, a_Model_isGiven]
set_option maxRecDepth 100000 in
theorem s_Model_isInside : (am_chkR { frames := 8, cells := 0, slots := 0, locals := 244 } k_Model_isInside && am_chkN c_Model_isInside { frames := 8, cells := 0, slots := 0, locals := 244 } && c_Model_isInside.all (am_chk "LinkHouseModel" prog_10_method_78_code 5 (Option.some Jvm.ClassFile.FieldType.boolean) k_Model_isInside) && c_Model_isInside.all (am_chkL m_Model_isInside) && decide (m_Model_isInside[0]? = some (0, am_argp 0 [2, 0, 0], [])) && decide (am_argn [2, 0, 0] ≤ 5)) = true := by decide +kernel
set_option maxHeartbeats 150000 in
set_option maxRecDepth 100000 in
theorem h_Model_isInside : ∀ X Q j v σ, B_Model_isInside X Q j v σ → am_at GR k_Model_isInside c_Model_isInside m_Model_isInside X Q 76 j v σ := fun X Q => am_sel_all (P := fun j v σ => am_at GR k_Model_isInside c_Model_isInside m_Model_isInside X Q 76 j v σ) (⟨(am_v3_of (fun t x1 x2 σ h => am_tk (fun e => by subst e; exact fun h => h) h)), ⟨(am_v2_of (fun t x4 σ h => am_tk (fun e => by subst e; exact fun h => h) h)), trivial⟩⟩)
set_option maxRecDepth 100000 in
theorem S_Model_isInside (l : Launch) (w : AW) : am_S l w GR a_Model_isInside := am_sound (rt := 0) (cal := k_Model_isInside) 264 y_Model_isInside prog_10_method_78_code 5 (Option.some Jvm.ClassFile.FieldType.boolean) [2, 0, 0] false { frames := 8, cells := 0, slots := 0, locals := 244 } B_Model_isInside "LinkHouseModel" c_Model_isInside m_Model_isInside 76 ms_Model_isInside (by decide +kernel) rfl rfl (am_cal (S_Model_object l w) (am_cal (S_Model_bind l w) (am_cal (S_Model_whereNow l w) (am_cal (S_Model_isSectionNow l w) (am_cal (S_Model_nameOf l w) (am_cal (S_Model_isGiven l w) (fun _ h => absurd h List.not_mem_nil))))))) s_Model_isInside h_Model_isInside
set_option maxRecDepth 100000 in
theorem of_Model_isInside {Q : Int → AMem → Prop} {x1 x2 : Int} {σ : AMem} (h : ∀ X : Nat → List Int → AMem → Prop, (∀ (x1 x2 : Int) (σ : AMem), B_Model_isInside_0 X Q x1 x2 σ → X 0 [9790, x1, x2] σ) → (∀ (x4 : Int) (σ : AMem), B_Model_isInside_1 X Q x4 σ → X 1 [9790, x4] σ) → X 0 [9790, x1, x2] σ) : T_Model_isInside [9790, x1, x2] σ Q := fun X hX => h X (fun x1 x2 σ h => hX 0 [9790, x1, x2] σ h) (fun x4 σ h => hX 1 [9790, x4] σ h)
def c_Model_shortKind : List aE := [(0, 1, .aload_n 0, 1, 0, 0, []), (1, 0, .iload_n 1, 1, 0, 0, []), (2, 0, .invokevirtual 503, 3, 236, 8, [9124]), (5, 0, .istore 4, 2, 0, 0, []), (7, 0, .aload_n 0, 1, 0, 0, []), (8, 0, .iload 4, 2, 0, 0, []), (10, 0, .iload_n 2, 1, 0, 0, []), (11, 0, .iload_n 3, 1, 0, 0, []), (12, 0, .invokevirtual 411, 3, 210, 8, [9012]), (15, 0, .istore 5, 2, 0, 0, []), (17, 0, .aload_n 0, 1, 0, 0, []), (18, 0, .iload 5, 2, 0, 0, []), (20, 0, .bipush 8, 2, 0, 0, []), (22, 0, .iadd, 1, 0, 0, []), (23, 0, .iconst 4, 1, 0, 0, []), (24, 0, .invokevirtual 291, 3, 183, 8, [8120]), (27, 0, .lstore 6, 2, 0, 0, []), (29, 0, .aload_n 0, 1, 0, 0, []), (30, 0, .iload 5, 2, 0, 0, []), (32, 0, .bipush 8, 2, 0, 0, []), (34, 0, .invokevirtual 291, 3, 183, 8, [8120]), (37, 0, .lstore 8, 2, 0, 0, []), (39, 0, .lload 6, 2, 0, 0, []), (41, 0, .ldc2_w 393, 3, 41, 0, [9028]), (44, 0, .lcmp, 1, 0, 0, []), (45, 0, .ifCond .eq 12, 3, 0, 0, []), (48, 0, .lload 6, 2, 0, 0, []), (50, 0, .ldc2_w 395, 3, 42, 0, [9029]), (53, 0, .lcmp, 1, 0, 0, []), (54, 0, .ifCond .ne 49, 3, 0, 0, []), (57, 2, .aload_n 0, 1, 0, 0, []), (58, 0, .iload 5, 2, 0, 0, []), (60, 0, .bipush 16, 2, 0, 0, []), (62, 0, .iadd, 1, 0, 0, []), (63, 0, .bipush 8, 2, 0, 0, []), (65, 0, .invokevirtual 291, 3, 183, 8, [8120]), (68, 0, .ldc2_w 583, 3, 4, 1, [9229]), (71, 0, .lcmp, 1, 0, 0, []), (72, 0, .ifCond .ne 31, 3, 0, 0, []), (75, 0, .lload 8, 2, 0, 0, []), (77, 0, .ldc2_w 307, 3, 2, 0, [8172]), (80, 0, .lcmp, 1, 0, 0, []), (81, 0, .ifCond .lt 22, 3, 0, 0, []), (84, 0, .aload_n 0, 1, 0, 0, []), (85, 0, .iload_n 1, 1, 0, 0, []), (86, 0, .aload_n 0, 1, 0, 0, []), (87, 0, .iload 5, 2, 0, 0, []), (89, 0, .bipush 12, 2, 0, 0, []), (91, 0, .iadd, 1, 0, 0, []), (92, 0, .iconst 4, 1, 0, 0, []), (93, 0, .invokevirtual 291, 3, 183, 8, [8120]), (96, 0, .l2i, 1, 0, 0, []), (97, 0, .invokevirtual 585, 3, 264, 8, [9230]), (100, 0, .ifCond .ne 5, 3, 0, 0, []), (103, 0, .iconst 0, 1, 0, 0, []), (104, 0, .ireturn, 1, 0, 0, []), (105, 0, .iload 4, 2, 0, 0, []), (107, 0, .aload_n 0, 1, 0, 0, []), (108, 0, .iload 4, 2, 0, 0, []), (110, 0, .aload_n 0, 1, 0, 0, []), (111, 0, .iload 4, 2, 0, 0, []), (113, 0, .iload_n 2, 1, 0, 0, []), (114, 0, .invokevirtual 408, 3, 207, 8, [9000]), (117, 0, .l2i, 1, 0, 0, []), (118, 0, .invokevirtual 323, 3, 189, 8, [8156]), (121, 0, .l2i, 1, 0, 0, []), (122, 0, .iadd, 1, 0, 0, []), (123, 0, .lload 8, 2, 0, 0, []), (125, 0, .l2i, 1, 0, 0, []), (126, 0, .iadd, 1, 0, 0, []), (127, 0, .istore 10, 2, 0, 0, []), (129, 0, .aload_n 0, 1, 0, 0, []), (130, 0, .getfield 17, 3, 8, 6, [2, 0, 6195]), (133, 0, .iload 10, 2, 0, 0, []), (135, 0, .iconst 2, 1, 0, 0, []), (136, 0, .isub, 1, 0, 0, []), (137, 0, .baload, 1, 2, 0, []), (138, 0, .sipush 255, 3, 0, 0, []), (141, 0, .iand, 1, 0, 0, []), (142, 0, .istore 11, 2, 0, 0, []), (144, 0, .aload_n 0, 1, 0, 0, []), (145, 0, .getfield 17, 3, 8, 6, [2, 0, 6195]), (148, 0, .iload 10, 2, 0, 0, []), (150, 0, .iconst 1, 1, 0, 0, []), (151, 0, .isub, 1, 0, 0, []), (152, 0, .baload, 1, 2, 0, []), (153, 0, .sipush 255, 3, 0, 0, []), (156, 0, .iand, 1, 0, 0, []), (157, 0, .istore 12, 2, 0, 0, []), (159, 0, .iload 11, 2, 0, 0, []), (161, 0, .sipush 139, 3, 0, 0, []), (164, 0, .if_icmp .ne 16, 3, 0, 0, []), (167, 0, .iload 12, 2, 0, 0, []), (169, 0, .iconst 5, 1, 0, 0, []), (170, 0, .ixor, 1, 0, 0, []), (171, 0, .sipush 199, 3, 0, 0, []), (174, 0, .iand, 1, 0, 0, []), (175, 0, .ifCond .ne 5, 3, 0, 0, []), (178, 0, .iconst 1, 1, 0, 0, []), (179, 0, .ireturn, 1, 0, 0, []), (180, 3, .lload 6, 2, 0, 0, []), (182, 0, .ldc2_w 393, 3, 41, 0, [9028]), (185, 0, .lcmp, 1, 0, 0, []), (186, 0, .ifCond .ne 11, 3, 0, 0, []), (189, 0, .iload 11, 2, 0, 0, []), (191, 0, .sipush 255, 3, 0, 0, []), (194, 0, .if_icmp .eq 7, 3, 0, 0, []), (197, 0, .iconst 0, 1, 0, 0, []), (198, 0, .goto 26, 3, 0, 0, []), (201, 0, .iload 12, 2, 0, 0, []), (203, 0, .bipush 21, 2, 0, 0, []), (205, 0, .if_icmp .ne 7, 3, 0, 0, []), (208, 0, .iconst 2, 1, 0, 0, []), (209, 0, .goto 15, 3, 0, 0, []), (212, 0, .iload 12, 2, 0, 0, []), (214, 0, .bipush 37, 2, 0, 0, []), (216, 0, .if_icmp .ne 7, 3, 0, 0, []), (219, 0, .iconst 3, 1, 0, 0, []), (220, 0, .goto 4, 3, 0, 0, []), (223, 0, .iconst 0, 1, 0, 0, []), (224, 0, .ireturn, 1, 0, 0, [])]
def m_Model_shortKind : List aT := [(0, [(0, 2), (1, 0), (2, 0), (3, 0)], []), (57, [(0, 2), (1, 0), (2, 0), (4, 0), (5, 0), (6, 1), (8, 1)], []), (180, [(6, 1), (11, 0), (12, 0)], [])]
def B_Model_shortKind_0 (X : Nat → List Int → AMem → Prop) (Q : Int → AMem → Prop) (x1 x2 x3 : Int) (σ : AMem) : Prop :=
  T_Model_object [9790, x1] σ (fun r1 σ2 => T_Model_site [9790, r1, x2, x3] σ2 (fun r3 σ4 => am_r32 (r3 + 8) ∧ T_Model_num [9790, (r3 + 8), 4] σ4 (fun r5 σ6 => T_Model_num [9790, r3, 8] σ6 (fun r7 σ8 => (if r5 = 41 then
  X 1 [9790, x1, x2, r1, r3, r5, r7] σ8
  else
  (if r5 = 42 then
    X 1 [9790, x1, x2, r1, r3, r5, r7] σ8
    else
    Q 0 σ8))))))
def B_Model_shortKind_1 (X : Nat → List Int → AMem → Prop) (Q : Int → AMem → Prop) (x1 x2 x4 x5 x6 x8 : Int) (σ : AMem) : Prop :=
  am_r32 (x5 + 16) ∧ T_Model_num [9790, (x5 + 16), 8] σ (fun r1 σ2 => (if r1 = (-4) then
  (if x8 < 2 then
    Q 0 σ2
    else
    am_r32 (x5 + 12) ∧ T_Model_num [9790, (x5 + 12), 4] σ2 (fun r3 σ4 => T_Model_isInside [9790, x1, (w32 r3)] σ4 (fun r5 σ6 => (if r5 = 0 then
      Q 0 σ6
      else
      T_Model_info [9790, x4, x2] σ6 (fun r7 σ8 => T_Model_beginning [9790, x4, (w32 r7)] σ8 (fun r9 σ10 => am_r32 (x4 + (w32 r9)) ∧ am_r32 ((x4 + (w32 r9)) + (w32 x8)) ∧ am_let ((x4 + (w32 r9)) + (w32 x8)) (fun y11 => am_r32 (y11 - 2) ∧ 0 ≤ (y11 - 2) ∧ (y11 - 2) < 65536 ∧ am_let (i_and (σ10 9793 (y11 - 2)) 255) (fun y12 => am_r32 (y11 - 1) ∧ 0 ≤ (y11 - 1) ∧ (y11 - 1) < 65536 ∧ am_let (i_and (σ10 9793 (y11 - 1)) 255) (fun y13 => (if y12 = 139 then
        (if (i_and (i_xor y13 5) 199) = 0 then
          Q 1 σ10
          else
          X 2 [x6, y12, y13] σ10)
        else
        X 2 [x6, y12, y13] σ10))))))))))
  else
  Q 0 σ2))
def B_Model_shortKind_2 (X : Nat → List Int → AMem → Prop) (Q : Int → AMem → Prop) (x6 x11 x12 : Int) (σ : AMem) : Prop :=
  (if x6 = 41 then
  (if x11 = 255 then
    (if x12 = 21 then
      Q 2 σ
      else
      (if x12 = 37 then
        Q 3 σ
        else
        Q 0 σ))
    else
    Q 0 σ)
  else
  Q 0 σ)
def B_Model_shortKind : (Nat → List Int → AMem → Prop) → (Int → AMem → Prop) → Nat → List Int → AMem → Prop := fun X Q j v σ => am_sel [(am_v4 (fun t x1 x2 x3 σ => if t = 9790 then B_Model_shortKind_0 X Q x1 x2 x3 σ else False)), (am_v7 (fun t x1 x2 x4 x5 x6 x8 σ => if t = 9790 then B_Model_shortKind_1 X Q x1 x2 x4 x5 x6 x8 σ else False)), (am_v3 (fun x6 x11 x12 σ => B_Model_shortKind_2 X Q x6 x11 x12 σ))] j v σ
def T_Model_shortKind : List Int → AMem → (Int → AMem → Prop) → Prop := am_T B_Model_shortKind
abbrev y_Model_shortKind : MethodName := ⟨"LinkHouseModel", "shortKind", "(III)I"⟩
def a_Model_shortKind : AC := (265, (y_Model_shortKind, prog_10_method_80_code, 13, (Option.some Jvm.ClassFile.FieldType.int)), [2, 0, 0, 0], 0, false, { frames := 9, cells := 0, slots := 0, locals := 276 }, T_Model_shortKind)
set_option maxRecDepth 100000 in
theorem ms_Model_shortKind : am_MSp a_Model_shortKind := am_ms_v 9228 9 9227 110005 8 rfl (by decide +kernel)
abbrev k_Model_shortKind : List AC := [a_Model_object, a_Model_site, a_Model_num, a_Model_isInside, a_Model_info, a_Model_beginning]
set_option maxRecDepth 100000 in
theorem s_Model_shortKind : (am_chkR { frames := 9, cells := 0, slots := 0, locals := 276 } k_Model_shortKind && am_chkN c_Model_shortKind { frames := 9, cells := 0, slots := 0, locals := 276 } && c_Model_shortKind.all (am_chk "LinkHouseModel" prog_10_method_80_code 13 (Option.some Jvm.ClassFile.FieldType.int) k_Model_shortKind) && c_Model_shortKind.all (am_chkL m_Model_shortKind) && decide (m_Model_shortKind[0]? = some (0, am_argp 0 [2, 0, 0, 0], [])) && decide (am_argn [2, 0, 0, 0] ≤ 13)) = true := by decide +kernel
set_option maxHeartbeats 150000 in
set_option maxRecDepth 100000 in
theorem h_Model_shortKind : ∀ X Q j v σ, B_Model_shortKind X Q j v σ → am_at GR k_Model_shortKind c_Model_shortKind m_Model_shortKind X Q 126 j v σ := fun X Q => am_sel_all (P := fun j v σ => am_at GR k_Model_shortKind c_Model_shortKind m_Model_shortKind X Q 126 j v σ) (⟨(am_v4_of (fun t x1 x2 x3 σ h => am_tk (fun e => by subst e; exact fun h => h) h)), ⟨(am_v7_of (fun t x1 x2 x4 x5 x6 x8 σ h => am_tk (fun e => by subst e; exact fun h => h) h)), ⟨(am_v3_of (fun x6 x11 x12 σ h => h)), trivial⟩⟩⟩)
set_option maxRecDepth 100000 in
theorem S_Model_shortKind (l : Launch) (w : AW) : am_S l w GR a_Model_shortKind := am_sound (rt := 0) (cal := k_Model_shortKind) 265 y_Model_shortKind prog_10_method_80_code 13 (Option.some Jvm.ClassFile.FieldType.int) [2, 0, 0, 0] false { frames := 9, cells := 0, slots := 0, locals := 276 } B_Model_shortKind "LinkHouseModel" c_Model_shortKind m_Model_shortKind 126 ms_Model_shortKind (by decide +kernel) rfl rfl (am_cal (S_Model_object l w) (am_cal (S_Model_site l w) (am_cal (S_Model_num l w) (am_cal (S_Model_isInside l w) (am_cal (S_Model_info l w) (am_cal (S_Model_beginning l w) (fun _ h => absurd h List.not_mem_nil))))))) s_Model_shortKind h_Model_shortKind
set_option maxRecDepth 100000 in
theorem of_Model_shortKind {Q : Int → AMem → Prop} {x1 x2 x3 : Int} {σ : AMem} (h : ∀ X : Nat → List Int → AMem → Prop, (∀ (x1 x2 x3 : Int) (σ : AMem), B_Model_shortKind_0 X Q x1 x2 x3 σ → X 0 [9790, x1, x2, x3] σ) → (∀ (x1 x2 x4 x5 x6 x8 : Int) (σ : AMem), B_Model_shortKind_1 X Q x1 x2 x4 x5 x6 x8 σ → X 1 [9790, x1, x2, x4, x5, x6, x8] σ) → (∀ (x6 x11 x12 : Int) (σ : AMem), B_Model_shortKind_2 X Q x6 x11 x12 σ → X 2 [x6, x11, x12] σ) → X 0 [9790, x1, x2, x3] σ) : T_Model_shortKind [9790, x1, x2, x3] σ Q := fun X hX => h X (fun x1 x2 x3 σ h => hX 0 [9790, x1, x2, x3] σ h) (fun x1 x2 x4 x5 x6 x8 σ h => hX 1 [9790, x1, x2, x4, x5, x6, x8] σ h) (fun x6 x11 x12 σ h => hX 2 [x6, x11, x12] σ h)
def c_Model_isShort : List aE := [(0, 1, .aload_n 0, 1, 0, 0, []), (1, 0, .iload_n 1, 1, 0, 0, []), (2, 0, .iload_n 2, 1, 0, 0, []), (3, 0, .iload_n 3, 1, 0, 0, []), (4, 0, .invokevirtual 588, 3, 265, 8, [9225]), (7, 0, .ifCond .le 7, 3, 0, 0, []), (10, 0, .iconst 1, 1, 0, 0, []), (11, 0, .goto 4, 3, 0, 0, []), (14, 0, .iconst 0, 1, 0, 0, []), (15, 0, .ireturn, 1, 1, 0, [])]
def m_Model_isShort : List aT := [(0, [(0, 2), (1, 0), (2, 0), (3, 0)], [])]
def B_Model_isShort_0 (X : Nat → List Int → AMem → Prop) (Q : Int → AMem → Prop) (x1 x2 x3 : Int) (σ : AMem) : Prop :=
  T_Model_shortKind [9790, x1, x2, x3] σ (fun r1 σ2 => (if 0 < r1 then
  Q 1 σ2
  else
  Q 0 σ2))
def B_Model_isShort : (Nat → List Int → AMem → Prop) → (Int → AMem → Prop) → Nat → List Int → AMem → Prop := fun X Q j v σ => am_sel [(am_v4 (fun t x1 x2 x3 σ => if t = 9790 then B_Model_isShort_0 X Q x1 x2 x3 σ else False))] j v σ
def T_Model_isShort : List Int → AMem → (Int → AMem → Prop) → Prop := am_T B_Model_isShort
abbrev y_Model_isShort : MethodName := ⟨"LinkHouseModel", "isShort", "(III)Z"⟩
def a_Model_isShort : AC := (266, (y_Model_isShort, prog_10_method_81_code, 4, (Option.some Jvm.ClassFile.FieldType.boolean)), [2, 0, 0, 0], 0, false, { frames := 10, cells := 0, slots := 0, locals := 316 }, T_Model_isShort)
set_option maxRecDepth 100000 in
theorem ms_Model_isShort : am_MSp a_Model_isShort := am_ms_v 9224 9 9223 110004 8 rfl (by decide +kernel)
abbrev k_Model_isShort : List AC := [a_Model_shortKind]
set_option maxRecDepth 100000 in
theorem s_Model_isShort : (am_chkR { frames := 10, cells := 0, slots := 0, locals := 316 } k_Model_isShort && am_chkN c_Model_isShort { frames := 10, cells := 0, slots := 0, locals := 316 } && c_Model_isShort.all (am_chk "LinkHouseModel" prog_10_method_81_code 4 (Option.some Jvm.ClassFile.FieldType.boolean) k_Model_isShort) && c_Model_isShort.all (am_chkL m_Model_isShort) && decide (m_Model_isShort[0]? = some (0, am_argp 0 [2, 0, 0, 0], [])) && decide (am_argn [2, 0, 0, 0] ≤ 4)) = true := by decide +kernel
set_option maxHeartbeats 150000 in
set_option maxRecDepth 100000 in
theorem h_Model_isShort : ∀ X Q j v σ, B_Model_isShort X Q j v σ → am_at GR k_Model_isShort c_Model_isShort m_Model_isShort X Q 20 j v σ := fun X Q => am_sel_all (P := fun j v σ => am_at GR k_Model_isShort c_Model_isShort m_Model_isShort X Q 20 j v σ) (⟨(am_v4_of (fun t x1 x2 x3 σ h => am_tk (fun e => by subst e; exact fun h => h) h)), trivial⟩)
set_option maxRecDepth 100000 in
theorem S_Model_isShort (l : Launch) (w : AW) : am_S l w GR a_Model_isShort := am_sound (rt := 0) (cal := k_Model_isShort) 266 y_Model_isShort prog_10_method_81_code 4 (Option.some Jvm.ClassFile.FieldType.boolean) [2, 0, 0, 0] false { frames := 10, cells := 0, slots := 0, locals := 316 } B_Model_isShort "LinkHouseModel" c_Model_isShort m_Model_isShort 20 ms_Model_isShort (by decide +kernel) rfl rfl (am_cal (S_Model_shortKind l w) (fun _ h => absurd h List.not_mem_nil)) s_Model_isShort h_Model_isShort
set_option maxRecDepth 100000 in
theorem of_Model_isShort {Q : Int → AMem → Prop} {x1 x2 x3 : Int} {σ : AMem} (h : ∀ X : Nat → List Int → AMem → Prop, (∀ (x1 x2 x3 : Int) (σ : AMem), B_Model_isShort_0 X Q x1 x2 x3 σ → X 0 [9790, x1, x2, x3] σ) → X 0 [9790, x1, x2, x3] σ) : T_Model_isShort [9790, x1, x2, x3] σ Q := fun X hX => h X (fun x1 x2 x3 σ h => hX 0 [9790, x1, x2, x3] σ h)
set_option maxRecDepth 100000 in
theorem iff_Model_isShort {Q : Int → AMem → Prop} {X : Nat → List Int → AMem → Prop} {x1 x2 x3 : Int} {σ : AMem} : T_Model_isShort [9790, x1, x2, x3] σ Q ↔ B_Model_isShort_0 X Q x1 x2 x3 σ := ⟨fun h => h (fun j v σ => B_Model_isShort X Q j v σ) (fun _ _ _ q => q), fun h _ hX => hX 0 _ _ h⟩
def c_Model_slotOf : List aE := [(0, 1, .iload_n 2, 1, 0, 0, []), (1, 0, .ifCond .eq 16, 3, 0, 0, []), (4, 0, .aload_n 0, 1, 0, 0, []), (5, 0, .aload_n 0, 1, 0, 0, []), (6, 0, .iload_n 1, 1, 0, 0, []), (7, 0, .invokevirtual 503, 3, 236, 8, [9124]), (10, 0, .iload_n 2, 1, 0, 0, []), (11, 0, .invokevirtual 375, 3, 201, 8, [8213]), (14, 0, .ifCond .ne 7, 3, 0, 0, []), (17, 2, .iconst 1, 1, 0, 0, []), (18, 0, .goto 4, 3, 0, 0, []), (21, 0, .iconst 0, 1, 0, 0, []), (22, 3, .istore 4, 2, 0, 0, []), (24, 0, .iload 4, 2, 0, 0, []), (26, 0, .ifCond .eq 7, 3, 0, 0, []), (29, 0, .iconst (-1), 1, 0, 0, []), (30, 0, .goto 13, 3, 0, 0, []), (33, 0, .aload_n 0, 1, 0, 0, []), (34, 0, .aload_n 0, 1, 0, 0, []), (35, 0, .iload_n 1, 1, 0, 0, []), (36, 0, .invokevirtual 503, 3, 236, 8, [9124]), (39, 0, .iload_n 2, 1, 0, 0, []), (40, 0, .invokevirtual 541, 3, 234, 8, [9104]), (43, 4, .istore 5, 2, 0, 0, []), (45, 0, .iconst 0, 1, 0, 0, []), (46, 0, .istore 6, 2, 0, 0, []), (48, 5, .iload 6, 2, 0, 0, []), (50, 0, .aload_n 0, 1, 0, 0, []), (51, 0, .getfield 577, 3, 8, 74, [0, 0, 7023]), (54, 0, .if_icmp .ge 62, 3, 0, 0, []), (57, 0, .aload_n 0, 1, 0, 0, []), (58, 0, .getfield 193, 3, 8, 78, [2, 0, 7027]), (61, 0, .iload 6, 2, 0, 0, []), (63, 0, .baload, 1, 3, 0, []), (64, 0, .iload_n 3, 1, 0, 0, []), (65, 0, .if_icmp .ne 45, 3, 0, 0, []), (68, 0, .aload_n 0, 1, 0, 0, []), (69, 0, .getfield 184, 3, 8, 75, [2, 0, 7024]), (72, 0, .iload 6, 2, 0, 0, []), (74, 0, .iaload, 1, 0, 0, []), (75, 0, .iload 5, 2, 0, 0, []), (77, 0, .if_icmp .ne 33, 3, 0, 0, []), (80, 0, .iload 5, 2, 0, 0, []), (82, 0, .ifCond .ge 25, 3, 0, 0, []), (85, 0, .aload_n 0, 1, 0, 0, []), (86, 0, .getfield 187, 3, 8, 76, [2, 0, 7025]), (89, 0, .iload 6, 2, 0, 0, []), (91, 0, .iaload, 1, 0, 0, []), (92, 0, .iload_n 1, 1, 0, 0, []), (93, 0, .if_icmp .ne 17, 3, 0, 0, []), (96, 0, .aload_n 0, 1, 0, 0, []), (97, 0, .getfield 190, 3, 8, 77, [2, 0, 7026]), (100, 0, .iload 6, 2, 0, 0, []), (102, 0, .iaload, 1, 0, 0, []), (103, 0, .iload_n 2, 1, 0, 0, []), (104, 0, .if_icmp .ne 6, 3, 0, 0, []), (107, 0, .iload 6, 2, 0, 0, []), (109, 0, .ireturn, 1, 0, 0, []), (110, 6, .iinc 6 1, 3, 0, 0, []), (113, 0, .goto (-65), 3, 0, 0, []), (116, 0, .aload_n 0, 1, 0, 0, []), (117, 0, .getfield 193, 3, 8, 78, [2, 0, 7027]), (120, 0, .aload_n 0, 1, 0, 0, []), (121, 0, .getfield 577, 3, 8, 74, [0, 0, 7023]), (124, 0, .iload_n 3, 1, 0, 0, []), (125, 0, .bastore, 1, 3, 0, []), (126, 0, .aload_n 0, 1, 0, 0, []), (127, 0, .getfield 184, 3, 8, 75, [2, 0, 7024]), (130, 0, .aload_n 0, 1, 0, 0, []), (131, 0, .getfield 577, 3, 8, 74, [0, 0, 7023]), (134, 0, .iload 5, 2, 0, 0, []), (136, 0, .iastore, 1, 0, 0, []), (137, 0, .aload_n 0, 1, 0, 0, []), (138, 0, .getfield 187, 3, 8, 76, [2, 0, 7025]), (141, 0, .aload_n 0, 1, 0, 0, []), (142, 0, .getfield 577, 3, 8, 74, [0, 0, 7023]), (145, 0, .iload_n 1, 1, 0, 0, []), (146, 0, .iastore, 1, 0, 0, []), (147, 0, .aload_n 0, 1, 0, 0, []), (148, 0, .getfield 190, 3, 8, 77, [2, 0, 7026]), (151, 0, .aload_n 0, 1, 0, 0, []), (152, 0, .getfield 577, 3, 8, 74, [0, 0, 7023]), (155, 0, .iload_n 2, 1, 0, 0, []), (156, 0, .iastore, 1, 0, 0, []), (157, 0, .aload_n 0, 1, 0, 0, []), (158, 0, .getfield 577, 3, 8, 74, [0, 0, 7023]), (161, 0, .ireturn, 1, 0, 0, [])]
def m_Model_slotOf : List aT := [(0, [(0, 2), (1, 0), (2, 0), (3, 0)], []), (17, [(0, 2), (1, 0), (2, 0), (3, 0)], []), (22, [(0, 2), (1, 0), (2, 0), (3, 0)], [0]), (43, [(0, 2), (1, 0), (2, 0), (3, 0)], [0]), (48, [(0, 2), (1, 0), (2, 0), (3, 0), (5, 0), (6, 0)], []), (110, [(0, 2), (1, 0), (2, 0), (3, 0), (5, 0), (6, 0)], [])]
def B_Model_slotOf_0 (X : Nat → List Int → AMem → Prop) (Q : Int → AMem → Prop) (x1 x2 x3 : Int) (σ : AMem) : Prop :=
  (if x2 = 0 then
  X 1 [9790, x1, x2, x3] σ
  else
  T_Model_object [9790, x1] σ (fun r1 σ2 => T_Model_bind [9790, r1, x2] σ2 (fun r3 σ4 => (if r3 = 0 then
    X 1 [9790, x1, x2, x3] σ4
    else
    X 2 [9790, x1, x2, x3, 0] σ4))))
def B_Model_slotOf_1 (X : Nat → List Int → AMem → Prop) (Q : Int → AMem → Prop) (x1 x2 x3 : Int) (σ : AMem) : Prop :=
  X 2 [9790, x1, x2, x3, 1] σ
def B_Model_slotOf_2 (X : Nat → List Int → AMem → Prop) (Q : Int → AMem → Prop) (x1 x2 x3 s0 : Int) (σ : AMem) : Prop :=
  (if s0 = 0 then
  T_Model_object [9790, x1] σ (fun r1 σ2 => T_Model_nameOf [9790, r1, x2] σ2 (fun r3 σ4 => X 3 [9790, x1, x2, x3, r3] σ4))
  else
  X 3 [9790, x1, x2, x3, (-1)] σ)
def B_Model_slotOf_3 (X : Nat → List Int → AMem → Prop) (Q : Int → AMem → Prop) (x1 x2 x3 s0 : Int) (σ : AMem) : Prop :=
  X 4 [9790, x1, x2, x3, s0, 0] σ
def B_Model_slotOf_4 (X : Nat → List Int → AMem → Prop) (Q : Int → AMem → Prop) (x1 x2 x3 x5 x6 : Int) (σ : AMem) : Prop :=
  (if x6 < (σ 9790 74) then
  0 ≤ x6 ∧ x6 < 2800 ∧ (if (σ 9849 x6) = x3 then
    0 ≤ x6 ∧ x6 < 2800 ∧ (if (σ 9846 x6) = x5 then
      (if x5 < 0 then
        0 ≤ x6 ∧ x6 < 2800 ∧ (if (σ 9847 x6) = x1 then
          0 ≤ x6 ∧ x6 < 2800 ∧ (if (σ 9848 x6) = x2 then
            Q x6 σ
            else
            X 5 [9790, x1, x2, x3, x5, x6] σ)
          else
          X 5 [9790, x1, x2, x3, x5, x6] σ)
        else
        Q x6 σ)
      else
      X 5 [9790, x1, x2, x3, x5, x6] σ)
    else
    X 5 [9790, x1, x2, x3, x5, x6] σ)
  else
  (if x3 = 0 ∨ x3 = 1 then 0 ≤ (σ 9790 74) ∧ (σ 9790 74) < 2800 ∧ am_let (am_upd σ 9849 (σ 9790 74) x3) (fun σ1 => 0 ≤ (σ1 9790 74) ∧ (σ1 9790 74) < 2800 ∧ am_let (am_upd σ1 9846 (σ1 9790 74) x5) (fun σ2 => 0 ≤ (σ2 9790 74) ∧ (σ2 9790 74) < 2800 ∧ am_let (am_upd σ2 9847 (σ2 9790 74) x1) (fun σ3 => 0 ≤ (σ3 9790 74) ∧ (σ3 9790 74) < 2800 ∧ am_let (am_upd σ3 9848 (σ3 9790 74) x2) (fun σ4 => Q (σ4 9790 74) σ4)))) else False))
def B_Model_slotOf_5 (X : Nat → List Int → AMem → Prop) (Q : Int → AMem → Prop) (x1 x2 x3 x5 x6 : Int) (σ : AMem) : Prop :=
  am_r32 (x6 + 1) ∧ X 4 [9790, x1, x2, x3, x5, (x6 + 1)] σ
def B_Model_slotOf : (Nat → List Int → AMem → Prop) → (Int → AMem → Prop) → Nat → List Int → AMem → Prop := fun X Q j v σ => am_sel [(am_v4 (fun t x1 x2 x3 σ => if t = 9790 then B_Model_slotOf_0 X Q x1 x2 x3 σ else False)), (am_v4 (fun t x1 x2 x3 σ => if t = 9790 then B_Model_slotOf_1 X Q x1 x2 x3 σ else False)), (am_v5 (fun t x1 x2 x3 s0 σ => if t = 9790 then B_Model_slotOf_2 X Q x1 x2 x3 s0 σ else False)), (am_v5 (fun t x1 x2 x3 s0 σ => if t = 9790 then B_Model_slotOf_3 X Q x1 x2 x3 s0 σ else False)), (am_v6 (fun t x1 x2 x3 x5 x6 σ => if t = 9790 then B_Model_slotOf_4 X Q x1 x2 x3 x5 x6 σ else False)), (am_v6 (fun t x1 x2 x3 x5 x6 σ => if t = 9790 then B_Model_slotOf_5 X Q x1 x2 x3 x5 x6 σ else False))] j v σ
def T_Model_slotOf : List Int → AMem → (Int → AMem → Prop) → Prop := am_T B_Model_slotOf
abbrev y_Model_slotOf : MethodName := ⟨"LinkHouseModel", "slotOf", "(IIZ)I"⟩
def a_Model_slotOf : AC := (267, (y_Model_slotOf, prog_10_method_77_code, 7, (Option.some Jvm.ClassFile.FieldType.int)), [2, 0, 0, 0], 0, false, { frames := 8, cells := 0, slots := 0, locals := 244 }, T_Model_slotOf)
set_option maxRecDepth 100000 in
theorem ms_Model_slotOf : am_MSp a_Model_slotOf := am_ms_v 10001 9 10000 110008 8 rfl (by decide +kernel)
abbrev k_Model_slotOf : List AC := [a_Model_object, a_Model_bind, a_Model_nameOf]
set_option maxRecDepth 100000 in
theorem s_Model_slotOf : (am_chkR { frames := 8, cells := 0, slots := 0, locals := 244 } k_Model_slotOf && am_chkN c_Model_slotOf { frames := 8, cells := 0, slots := 0, locals := 244 } && c_Model_slotOf.all (am_chk "LinkHouseModel" prog_10_method_77_code 7 (Option.some Jvm.ClassFile.FieldType.int) k_Model_slotOf) && c_Model_slotOf.all (am_chkL m_Model_slotOf) && decide (m_Model_slotOf[0]? = some (0, am_argp 0 [2, 0, 0, 0], [])) && decide (am_argn [2, 0, 0, 0] ≤ 7)) = true := by decide +kernel
set_option maxHeartbeats 150000 in
set_option maxRecDepth 100000 in
theorem h_Model_slotOf : ∀ X Q j v σ, B_Model_slotOf X Q j v σ → am_at GR k_Model_slotOf c_Model_slotOf m_Model_slotOf X Q 92 j v σ := fun X Q => am_sel_all (P := fun j v σ => am_at GR k_Model_slotOf c_Model_slotOf m_Model_slotOf X Q 92 j v σ) (⟨(am_v4_of (fun t x1 x2 x3 σ h => am_tk (fun e => by subst e; exact fun h => h) h)), ⟨(am_v4_of (fun t x1 x2 x3 σ h => am_tk (fun e => by subst e; exact fun h => h) h)), ⟨(am_v5_of (fun t x1 x2 x3 s0 σ h => am_tk (fun e => by subst e; exact fun h => h) h)), ⟨(am_v5_of (fun t x1 x2 x3 s0 σ h => am_tk (fun e => by subst e; exact fun h => h) h)), ⟨(am_v6_of (fun t x1 x2 x3 x5 x6 σ h => am_tk (fun e => by subst e; exact fun h => h) h)), ⟨(am_v6_of (fun t x1 x2 x3 x5 x6 σ h => am_tk (fun e => by subst e; exact fun h => h) h)), trivial⟩⟩⟩⟩⟩⟩)
set_option maxRecDepth 100000 in
theorem S_Model_slotOf (l : Launch) (w : AW) : am_S l w GR a_Model_slotOf := am_sound (rt := 0) (cal := k_Model_slotOf) 267 y_Model_slotOf prog_10_method_77_code 7 (Option.some Jvm.ClassFile.FieldType.int) [2, 0, 0, 0] false { frames := 8, cells := 0, slots := 0, locals := 244 } B_Model_slotOf "LinkHouseModel" c_Model_slotOf m_Model_slotOf 92 ms_Model_slotOf (by decide +kernel) rfl rfl (am_cal (S_Model_object l w) (am_cal (S_Model_bind l w) (am_cal (S_Model_nameOf l w) (fun _ h => absurd h List.not_mem_nil)))) s_Model_slotOf h_Model_slotOf
set_option maxRecDepth 100000 in
theorem of_Model_slotOf {Q : Int → AMem → Prop} {x1 x2 x3 : Int} {σ : AMem} (h : ∀ X : Nat → List Int → AMem → Prop, (∀ (x1 x2 x3 : Int) (σ : AMem), B_Model_slotOf_0 X Q x1 x2 x3 σ → X 0 [9790, x1, x2, x3] σ) → (∀ (x1 x2 x3 : Int) (σ : AMem), B_Model_slotOf_1 X Q x1 x2 x3 σ → X 1 [9790, x1, x2, x3] σ) → (∀ (x1 x2 x3 s0 : Int) (σ : AMem), B_Model_slotOf_2 X Q x1 x2 x3 s0 σ → X 2 [9790, x1, x2, x3, s0] σ) → (∀ (x1 x2 x3 s0 : Int) (σ : AMem), B_Model_slotOf_3 X Q x1 x2 x3 s0 σ → X 3 [9790, x1, x2, x3, s0] σ) → (∀ (x1 x2 x3 x5 x6 : Int) (σ : AMem), B_Model_slotOf_4 X Q x1 x2 x3 x5 x6 σ → X 4 [9790, x1, x2, x3, x5, x6] σ) → (∀ (x1 x2 x3 x5 x6 : Int) (σ : AMem), B_Model_slotOf_5 X Q x1 x2 x3 x5 x6 σ → X 5 [9790, x1, x2, x3, x5, x6] σ) → X 0 [9790, x1, x2, x3] σ) : T_Model_slotOf [9790, x1, x2, x3] σ Q := fun X hX => h X (fun x1 x2 x3 σ h => hX 0 [9790, x1, x2, x3] σ h) (fun x1 x2 x3 σ h => hX 1 [9790, x1, x2, x3] σ h) (fun x1 x2 x3 s0 σ h => hX 2 [9790, x1, x2, x3, s0] σ h) (fun x1 x2 x3 s0 σ h => hX 3 [9790, x1, x2, x3, s0] σ h) (fun x1 x2 x3 x5 x6 σ h => hX 4 [9790, x1, x2, x3, x5, x6] σ h) (fun x1 x2 x3 x5 x6 σ h => hX 5 [9790, x1, x2, x3, x5, x6] σ h)
def c_Model_findSlots : List aE := [(0, 1, .iconst 0, 1, 0, 0, []), (1, 0, .istore_n 1, 1, 0, 0, []), (2, 2, .iload_n 1, 1, 0, 0, []), (3, 0, .aload_n 0, 1, 0, 0, []), (4, 0, .getfield 531, 3, 8, 14, [0, 0, 6203]), (7, 0, .if_icmp .ge 180, 3, 0, 0, []), (10, 0, .aload_n 0, 1, 0, 0, []), (11, 0, .iload_n 1, 1, 0, 0, []), (12, 0, .invokevirtual 503, 3, 236, 8, [9124]), (15, 0, .istore_n 2, 1, 0, 0, []), (16, 0, .iconst 1, 1, 0, 0, []), (17, 0, .istore_n 3, 1, 0, 0, []), (18, 3, .iload_n 3, 1, 0, 0, []), (19, 0, .aload_n 0, 1, 0, 0, []), (20, 0, .iload_n 2, 1, 0, 0, []), (21, 0, .invokevirtual 313, 3, 185, 8, [8136]), (24, 0, .if_icmp .ge 157, 3, 0, 0, []), (27, 0, .aload_n 0, 1, 0, 0, []), (28, 0, .iload_n 2, 1, 0, 0, []), (29, 0, .iload_n 3, 1, 0, 0, []), (30, 0, .invokevirtual 419, 3, 208, 8, [8235]), (33, 0, .ifCond .eq 142, 3, 0, 0, []), (36, 0, .aload_n 0, 1, 0, 0, []), (37, 0, .iload_n 1, 1, 0, 0, []), (38, 0, .aload_n 0, 1, 0, 0, []), (39, 0, .iload_n 2, 1, 0, 0, []), (40, 0, .iload_n 3, 1, 0, 0, []), (41, 0, .invokevirtual 408, 3, 207, 8, [9000]), (44, 0, .l2i, 1, 0, 0, []), (45, 0, .invokevirtual 591, 3, 255, 8, [9188]), (48, 0, .ifCond .ne 6, 3, 0, 0, []), (51, 0, .goto 124, 3, 0, 0, []), (54, 0, .iconst 0, 1, 0, 0, []), (55, 0, .istore 4, 2, 0, 0, []), (57, 4, .iload 4, 2, 0, 0, []), (59, 0, .aload_n 0, 1, 0, 0, []), (60, 0, .iload_n 2, 1, 0, 0, []), (61, 0, .iload_n 3, 1, 0, 0, []), (62, 0, .invokevirtual 422, 3, 209, 8, [9004]), (65, 0, .if_icmp .ge 110, 3, 0, 0, []), (68, 0, .aload_n 0, 1, 0, 0, []), (69, 0, .aload_n 0, 1, 0, 0, []), (70, 0, .iload_n 2, 1, 0, 0, []), (71, 0, .iload_n 3, 1, 0, 0, []), (72, 0, .iload 4, 2, 0, 0, []), (74, 0, .invokevirtual 411, 3, 210, 8, [9012]), (77, 0, .bipush 8, 2, 0, 0, []), (79, 0, .iadd, 1, 0, 0, []), (80, 0, .iconst 4, 1, 0, 0, []), (81, 0, .invokevirtual 291, 3, 183, 8, [8120]), (84, 0, .lstore 5, 2, 0, 0, []), (86, 0, .lload 5, 2, 0, 0, []), (88, 0, .invokestatic 405, 3, 211, 0, [9023]), (91, 0, .ifCond .eq 78, 3, 0, 0, []), (94, 0, .aload_n 0, 1, 0, 0, []), (95, 0, .iload_n 1, 1, 0, 0, []), (96, 0, .iload_n 3, 1, 0, 0, []), (97, 0, .iload 4, 2, 0, 0, []), (99, 0, .invokevirtual 594, 3, 266, 8, [9221]), (102, 0, .ifCond .eq 6, 3, 0, 0, []), (105, 0, .goto 64, 3, 0, 0, []), (108, 0, .aload_n 0, 1, 0, 0, []), (109, 0, .iload_n 1, 1, 0, 0, []), (110, 0, .aload_n 0, 1, 0, 0, []), (111, 0, .aload_n 0, 1, 0, 0, []), (112, 0, .iload_n 2, 1, 0, 0, []), (113, 0, .iload_n 3, 1, 0, 0, []), (114, 0, .iload 4, 2, 0, 0, []), (116, 0, .invokevirtual 411, 3, 210, 8, [9012]), (119, 0, .bipush 12, 2, 0, 0, []), (121, 0, .iadd, 1, 0, 0, []), (122, 0, .iconst 4, 1, 0, 0, []), (123, 0, .invokevirtual 291, 3, 183, 8, [8120]), (126, 0, .l2i, 1, 0, 0, []), (127, 0, .lload 5, 2, 0, 0, []), (129, 0, .ldc2_w 391, 3, 22, 0, [9027]), (132, 0, .lcmp, 1, 0, 0, []), (133, 0, .ifCond .ne 7, 3, 0, 0, []), (136, 0, .iconst 1, 1, 0, 0, []), (137, 0, .goto 4, 3, 0, 0, []), (140, 0, .iconst 0, 1, 0, 0, []), (141, 5, .invokevirtual 597, 3, 267, 8, [9238]), (144, 0, .istore 7, 2, 0, 0, []), (146, 0, .aload_n 0, 1, 0, 0, []), (147, 0, .dup, 1, 0, 0, []), (148, 0, .getfield 577, 3, 8, 74, [0, 0, 7023]), (151, 0, .iload 7, 2, 0, 0, []), (153, 0, .aload_n 0, 1, 0, 0, []), (154, 0, .getfield 577, 3, 8, 74, [0, 0, 7023]), (157, 0, .if_icmp .ne 7, 3, 0, 0, []), (160, 0, .iconst 1, 1, 0, 0, []), (161, 0, .goto 4, 3, 0, 0, []), (164, 0, .iconst 0, 1, 0, 0, []), (165, 6, .iadd, 1, 0, 0, []), (166, 0, .putfield 577, 3, 8, 74, [0, 0, 7023]), (169, 7, .iinc 4 1, 3, 0, 0, []), (172, 0, .goto (-115), 3, 0, 0, []), (175, 8, .iinc 3 1, 3, 0, 0, []), (178, 0, .goto (-160), 3, 0, 0, []), (181, 0, .iinc 1 1, 3, 0, 0, []), (184, 0, .goto (-182), 3, 0, 0, []), (187, 0, .return_, 1, 0, 0, [])]
def m_Model_findSlots : List aT := [(0, [(0, 2)], []), (2, [(0, 2), (1, 0)], []), (18, [(0, 2), (1, 0), (2, 0), (3, 0)], []), (57, [(0, 2), (1, 0), (2, 0), (3, 0), (4, 0)], []), (141, [(0, 2), (1, 0), (2, 0), (3, 0), (4, 0)], [0, 0, 0, 2]), (165, [(0, 2), (1, 0), (2, 0), (3, 0), (4, 0)], [0, 0, 2]), (169, [(0, 2), (1, 0), (2, 0), (3, 0), (4, 0)], []), (175, [(0, 2), (1, 0), (2, 0), (3, 0)], [])]
def B_Model_findSlots_0 (X : Nat → List Int → AMem → Prop) (Q : Int → AMem → Prop) (σ : AMem) : Prop :=
  X 1 [9790, 0] σ
def B_Model_findSlots_1 (X : Nat → List Int → AMem → Prop) (Q : Int → AMem → Prop) (x1 : Int) (σ : AMem) : Prop :=
  (if x1 < (σ 9790 14) then
  T_Model_object [9790, x1] σ (fun r1 σ2 => X 2 [9790, x1, r1, 1] σ2)
  else
  Q 0 σ)
def B_Model_findSlots_2 (X : Nat → List Int → AMem → Prop) (Q : Int → AMem → Prop) (x1 x2 x3 : Int) (σ : AMem) : Prop :=
  T_Model_sections [9790, x2] σ (fun r1 σ2 => (if x3 < r1 then
  T_Model_isSites [9790, x2, x3] σ2 (fun r3 σ4 => (if r3 = 0 then
    X 7 [9790, x1, x2, x3] σ4
    else
    T_Model_info [9790, x2, x3] σ4 (fun r5 σ6 => T_Model_stays [9790, x1, (w32 r5)] σ6 (fun r7 σ8 => (if r7 = 0 then
      X 7 [9790, x1, x2, x3] σ8
      else
      X 3 [9790, x1, x2, x3, 0] σ8)))))
  else
  am_r32 (x1 + 1) ∧ X 1 [9790, (x1 + 1)] σ2))
def B_Model_findSlots_3 (X : Nat → List Int → AMem → Prop) (Q : Int → AMem → Prop) (x1 x2 x3 x4 : Int) (σ : AMem) : Prop :=
  T_Model_siteMany [9790, x2, x3] σ (fun r1 σ2 => (if x4 < r1 then
  T_Model_site [9790, x2, x3, x4] σ2 (fun r3 σ4 => am_r32 (r3 + 8) ∧ T_Model_num [9790, (r3 + 8), 4] σ4 (fun r5 σ6 => T_Model_isSlotted [r5] σ6 (fun r7 σ8 => (if r7 = 0 then
    X 6 [9790, x1, x2, x3, x4] σ8
    else
    T_Model_isShort [9790, x1, x3, x4] σ8 (fun r9 σ10 => (if r9 = 0 then
      T_Model_site [9790, x2, x3, x4] σ10 (fun r11 σ12 => am_r32 (r11 + 12) ∧ T_Model_num [9790, (r11 + 12), 4] σ12 (fun r13 σ14 => (if r5 = 22 then
        X 4 [9790, x1, x2, x3, x4, 1, (w32 r13), x1, 9790] σ14
        else
        X 4 [9790, x1, x2, x3, x4, 0, (w32 r13), x1, 9790] σ14)))
      else
      X 6 [9790, x1, x2, x3, x4] σ10))))))
  else
  X 7 [9790, x1, x2, x3] σ2))
def B_Model_findSlots_4 (X : Nat → List Int → AMem → Prop) (Q : Int → AMem → Prop) (x1 x2 x3 x4 s0 s1 s2 s3 : Int) (σ : AMem) : Prop :=
  (if ly_k s3 = 28 then T_Model_slotOf [s3, s2, s1, s0] σ (fun r1 σ2 => (if r1 = (σ2 9790 74) then
  X 5 [9790, x1, x2, x3, x4, 1, (σ2 9790 74), 9790] σ2
  else
  X 5 [9790, x1, x2, x3, x4, 0, (σ2 9790 74), 9790] σ2)) else False)
def B_Model_findSlots_5 (X : Nat → List Int → AMem → Prop) (Q : Int → AMem → Prop) (x1 x2 x3 x4 s0 s1 s2 : Int) (σ : AMem) : Prop :=
  am_r32 (s1 + s0) ∧ (if ly_k s2 = 28 then (if ly_fin s2 74 = 0 then am_let (am_upd σ s2 74 (s1 + s0)) (fun σ1 => X 6 [9790, x1, x2, x3, x4] σ1) else False) else False)
def B_Model_findSlots_6 (X : Nat → List Int → AMem → Prop) (Q : Int → AMem → Prop) (x1 x2 x3 x4 : Int) (σ : AMem) : Prop :=
  am_r32 (x4 + 1) ∧ X 3 [9790, x1, x2, x3, (x4 + 1)] σ
def B_Model_findSlots_7 (X : Nat → List Int → AMem → Prop) (Q : Int → AMem → Prop) (x1 x2 x3 : Int) (σ : AMem) : Prop :=
  am_r32 (x3 + 1) ∧ X 2 [9790, x1, x2, (x3 + 1)] σ
def B_Model_findSlots : (Nat → List Int → AMem → Prop) → (Int → AMem → Prop) → Nat → List Int → AMem → Prop := fun X Q j v σ => am_sel [(am_v1 (fun t σ => if t = 9790 then B_Model_findSlots_0 X Q σ else False)), (am_v2 (fun t x1 σ => if t = 9790 then B_Model_findSlots_1 X Q x1 σ else False)), (am_v4 (fun t x1 x2 x3 σ => if t = 9790 then B_Model_findSlots_2 X Q x1 x2 x3 σ else False)), (am_v5 (fun t x1 x2 x3 x4 σ => if t = 9790 then B_Model_findSlots_3 X Q x1 x2 x3 x4 σ else False)), (am_v9 (fun t x1 x2 x3 x4 s0 s1 s2 s3 σ => if t = 9790 then B_Model_findSlots_4 X Q x1 x2 x3 x4 s0 s1 s2 s3 σ else False)), (am_v8 (fun t x1 x2 x3 x4 s0 s1 s2 σ => if t = 9790 then B_Model_findSlots_5 X Q x1 x2 x3 x4 s0 s1 s2 σ else False)), (am_v5 (fun t x1 x2 x3 x4 σ => if t = 9790 then B_Model_findSlots_6 X Q x1 x2 x3 x4 σ else False)), (am_v4 (fun t x1 x2 x3 σ => if t = 9790 then B_Model_findSlots_7 X Q x1 x2 x3 σ else False))] j v σ
def T_Model_findSlots : List Int → AMem → (Int → AMem → Prop) → Prop := am_T B_Model_findSlots
abbrev y_Model_findSlots : MethodName := ⟨"LinkHouseModel", "findSlots", "()V"⟩
def a_Model_findSlots : AC := (268, (y_Model_findSlots, prog_10_method_82_code, 8, (Option.none : Option Jvm.ClassFile.FieldType)), [2], 3, false, { frames := 11, cells := 0, slots := 0, locals := 347 }, T_Model_findSlots)
set_option maxRecDepth 100000 in
theorem ms_Model_findSlots : am_MSp a_Model_findSlots := am_ms_v 9220 9 9219 110003 8 rfl (by decide +kernel)
abbrev k_Model_findSlots : List AC := [a_Model_object, a_Model_sections, a_Model_isSites, a_Model_info, a_Model_stays, a_Model_siteMany, a_Model_site, a_Model_num, a_Model_isSlotted, a_Model_isShort, a_Model_slotOf]
set_option maxRecDepth 100000 in
theorem s_Model_findSlots : (am_chkR { frames := 11, cells := 0, slots := 0, locals := 347 } k_Model_findSlots && am_chkN c_Model_findSlots { frames := 11, cells := 0, slots := 0, locals := 347 } && c_Model_findSlots.all (am_chk "LinkHouseModel" prog_10_method_82_code 8 (Option.none : Option Jvm.ClassFile.FieldType) k_Model_findSlots) && c_Model_findSlots.all (am_chkL m_Model_findSlots) && decide (m_Model_findSlots[0]? = some (0, am_argp 0 [2], [])) && decide (am_argn [2] ≤ 8)) = true := by decide +kernel
set_option maxHeartbeats 150000 in
set_option maxRecDepth 100000 in
theorem h_Model_findSlots : ∀ X Q j v σ, B_Model_findSlots X Q j v σ → am_at GR k_Model_findSlots c_Model_findSlots m_Model_findSlots X Q 107 j v σ := fun X Q => am_sel_all (P := fun j v σ => am_at GR k_Model_findSlots c_Model_findSlots m_Model_findSlots X Q 107 j v σ) (⟨(am_v1_of (fun t σ h => am_tk (fun e => by subst e; exact fun h => h) h)), ⟨(am_v2_of (fun t x1 σ h => am_tk (fun e => by subst e; exact fun h => h) h)), ⟨(am_v4_of (fun t x1 x2 x3 σ h => am_tk (fun e => by subst e; exact fun h => h) h)), ⟨(am_v5_of (fun t x1 x2 x3 x4 σ h => am_tk (fun e => by subst e; exact fun h => h) h)), ⟨(am_v9_of (fun t x1 x2 x3 x4 s0 s1 s2 s3 σ h => am_tk (fun e => by subst e; exact fun h => h) h)), ⟨(am_v8_of (fun t x1 x2 x3 x4 s0 s1 s2 σ h => am_tk (fun e => by subst e; exact fun h => h) h)), ⟨(am_v5_of (fun t x1 x2 x3 x4 σ h => am_tk (fun e => by subst e; exact fun h => h) h)), ⟨(am_v4_of (fun t x1 x2 x3 σ h => am_tk (fun e => by subst e; exact fun h => h) h)), trivial⟩⟩⟩⟩⟩⟩⟩⟩)
set_option maxRecDepth 100000 in
theorem S_Model_findSlots (l : Launch) (w : AW) : am_S l w GR a_Model_findSlots := am_sound (rt := 3) (cal := k_Model_findSlots) 268 y_Model_findSlots prog_10_method_82_code 8 (Option.none : Option Jvm.ClassFile.FieldType) [2] false { frames := 11, cells := 0, slots := 0, locals := 347 } B_Model_findSlots "LinkHouseModel" c_Model_findSlots m_Model_findSlots 107 ms_Model_findSlots (by decide +kernel) rfl rfl (am_cal (S_Model_object l w) (am_cal (S_Model_sections l w) (am_cal (S_Model_isSites l w) (am_cal (S_Model_info l w) (am_cal (S_Model_stays l w) (am_cal (S_Model_siteMany l w) (am_cal (S_Model_site l w) (am_cal (S_Model_num l w) (am_cal (S_Model_isSlotted l w) (am_cal (S_Model_isShort l w) (am_cal (S_Model_slotOf l w) (fun _ h => absurd h List.not_mem_nil)))))))))))) s_Model_findSlots h_Model_findSlots
set_option maxRecDepth 100000 in
theorem of_Model_findSlots {Q : Int → AMem → Prop} {σ : AMem} (h : ∀ X : Nat → List Int → AMem → Prop, (∀ (σ : AMem), B_Model_findSlots_0 X Q σ → X 0 [9790] σ) → (∀ (x1 : Int) (σ : AMem), B_Model_findSlots_1 X Q x1 σ → X 1 [9790, x1] σ) → (∀ (x1 x2 x3 : Int) (σ : AMem), B_Model_findSlots_2 X Q x1 x2 x3 σ → X 2 [9790, x1, x2, x3] σ) → (∀ (x1 x2 x3 x4 : Int) (σ : AMem), B_Model_findSlots_3 X Q x1 x2 x3 x4 σ → X 3 [9790, x1, x2, x3, x4] σ) → (∀ (x1 x2 x3 x4 s0 s1 s2 s3 : Int) (σ : AMem), B_Model_findSlots_4 X Q x1 x2 x3 x4 s0 s1 s2 s3 σ → X 4 [9790, x1, x2, x3, x4, s0, s1, s2, s3] σ) → (∀ (x1 x2 x3 x4 s0 s1 s2 : Int) (σ : AMem), B_Model_findSlots_5 X Q x1 x2 x3 x4 s0 s1 s2 σ → X 5 [9790, x1, x2, x3, x4, s0, s1, s2] σ) → (∀ (x1 x2 x3 x4 : Int) (σ : AMem), B_Model_findSlots_6 X Q x1 x2 x3 x4 σ → X 6 [9790, x1, x2, x3, x4] σ) → (∀ (x1 x2 x3 : Int) (σ : AMem), B_Model_findSlots_7 X Q x1 x2 x3 σ → X 7 [9790, x1, x2, x3] σ) → X 0 [9790] σ) : T_Model_findSlots [9790] σ Q := fun X hX => h X (fun σ h => hX 0 [9790] σ h) (fun x1 σ h => hX 1 [9790, x1] σ h) (fun x1 x2 x3 σ h => hX 2 [9790, x1, x2, x3] σ h) (fun x1 x2 x3 x4 σ h => hX 3 [9790, x1, x2, x3, x4] σ h) (fun x1 x2 x3 x4 s0 s1 s2 s3 σ h => hX 4 [9790, x1, x2, x3, x4, s0, s1, s2, s3] σ h) (fun x1 x2 x3 x4 s0 s1 s2 σ h => hX 5 [9790, x1, x2, x3, x4, s0, s1, s2] σ h) (fun x1 x2 x3 x4 σ h => hX 6 [9790, x1, x2, x3, x4] σ h) (fun x1 x2 x3 σ h => hX 7 [9790, x1, x2, x3] σ h)
def c_Model_segmentOf : List aE := [(0, 1, .iload_n 0, 1, 0, 0, []), (1, 0, .iconst 2, 1, 0, 0, []), (2, 0, .if_icmp .ge 7, 3, 0, 0, []), (5, 0, .iload_n 0, 1, 0, 0, []), (6, 0, .goto 4, 3, 0, 0, []), (9, 0, .iconst 2, 1, 0, 0, []), (10, 0, .ireturn, 1, 0, 0, [])]
def m_Model_segmentOf : List aT := [(0, [(0, 0)], [])]
def B_Model_segmentOf_0 (X : Nat → List Int → AMem → Prop) (Q : Int → AMem → Prop) (x0 : Int) (σ : AMem) : Prop :=
  (if x0 < 2 then
  Q x0 σ
  else
  Q 2 σ)
def B_Model_segmentOf : (Nat → List Int → AMem → Prop) → (Int → AMem → Prop) → Nat → List Int → AMem → Prop := fun X Q j v σ => am_sel [(am_v1 (fun x0 σ => B_Model_segmentOf_0 X Q x0 σ))] j v σ
def T_Model_segmentOf : List Int → AMem → (Int → AMem → Prop) → Prop := am_T B_Model_segmentOf
abbrev y_Model_segmentOf : MethodName := ⟨"LinkHouseModel", "segmentOf", "(I)I"⟩
def a_Model_segmentOf : AC := (269, (y_Model_segmentOf, prog_10_method_87_code, 1, (Option.some Jvm.ClassFile.FieldType.int)), [0], 0, true, { frames := 0, cells := 0, slots := 0, locals := 0 }, T_Model_segmentOf)
set_option maxRecDepth 100000 in
theorem ms_Model_segmentOf : am_MSp a_Model_segmentOf := am_ms_s 10012 9 10011 rfl (by decide +kernel)
abbrev k_Model_segmentOf : List AC := []
set_option maxRecDepth 100000 in
theorem s_Model_segmentOf : (am_chkR { frames := 0, cells := 0, slots := 0, locals := 0 } k_Model_segmentOf && am_chkN c_Model_segmentOf { frames := 0, cells := 0, slots := 0, locals := 0 } && c_Model_segmentOf.all (am_chk "LinkHouseModel" prog_10_method_87_code 1 (Option.some Jvm.ClassFile.FieldType.int) k_Model_segmentOf) && c_Model_segmentOf.all (am_chkL m_Model_segmentOf) && decide (m_Model_segmentOf[0]? = some (0, am_argp 0 [0], [])) && decide (am_argn [0] ≤ 1)) = true := by decide +kernel
set_option maxHeartbeats 150000 in
set_option maxRecDepth 100000 in
theorem h_Model_segmentOf : ∀ X Q j v σ, B_Model_segmentOf X Q j v σ → am_at GR k_Model_segmentOf c_Model_segmentOf m_Model_segmentOf X Q 20 j v σ := fun X Q => am_sel_all (P := fun j v σ => am_at GR k_Model_segmentOf c_Model_segmentOf m_Model_segmentOf X Q 20 j v σ) (⟨(am_v1_of (fun x0 σ h => h)), trivial⟩)
set_option maxRecDepth 100000 in
theorem S_Model_segmentOf (l : Launch) (w : AW) : am_S l w GR a_Model_segmentOf := am_sound (rt := 0) (cal := k_Model_segmentOf) 269 y_Model_segmentOf prog_10_method_87_code 1 (Option.some Jvm.ClassFile.FieldType.int) [0] true { frames := 0, cells := 0, slots := 0, locals := 0 } B_Model_segmentOf "LinkHouseModel" c_Model_segmentOf m_Model_segmentOf 20 ms_Model_segmentOf (by decide +kernel) rfl rfl (fun _ h => absurd h List.not_mem_nil) s_Model_segmentOf h_Model_segmentOf
set_option maxRecDepth 100000 in
theorem of_Model_segmentOf {Q : Int → AMem → Prop} {x0 : Int} {σ : AMem} (h : ∀ X : Nat → List Int → AMem → Prop, (∀ (x0 : Int) (σ : AMem), B_Model_segmentOf_0 X Q x0 σ → X 0 [x0] σ) → X 0 [x0] σ) : T_Model_segmentOf [x0] σ Q := fun X hX => h X (fun x0 σ h => hX 0 [x0] σ h)
set_option maxRecDepth 100000 in
theorem iff_Model_segmentOf {Q : Int → AMem → Prop} {X : Nat → List Int → AMem → Prop} {x0 : Int} {σ : AMem} : T_Model_segmentOf [x0] σ Q ↔ B_Model_segmentOf_0 X Q x0 σ := ⟨fun h => h (fun j v σ => B_Model_segmentOf X Q j v σ) (fun _ _ _ q => q), fun h _ hX => hX 0 _ _ h⟩
def c_Model_isCommon : List aE := [(0, 1, .aload_n 0, 1, 0, 0, []), (1, 0, .getfield 60, 3, 8, 23, [2, 0, 6212]), (4, 0, .aload_n 0, 1, 0, 0, []), (5, 0, .getfield 124, 3, 8, 49, [2, 0, 6238]), (8, 0, .iload_n 1, 1, 0, 0, []), (9, 0, .iaload, 1, 0, 0, []), (10, 0, .iaload, 1, 0, 0, []), (11, 0, .iconst 2, 1, 0, 0, []), (12, 0, .if_icmp .ne 28, 3, 0, 0, []), (15, 0, .aload_n 0, 1, 0, 0, []), (16, 0, .getfield 509, 3, 8, 68, [0, 1, 7017]), (19, 0, .ifCond .eq 17, 3, 0, 0, []), (22, 0, .aload_n 0, 1, 0, 0, []), (23, 0, .getfield 172, 3, 8, 67, [2, 0, 7016]), (26, 0, .aload_n 0, 1, 0, 0, []), (27, 0, .getfield 124, 3, 8, 49, [2, 0, 6238]), (30, 0, .iload_n 1, 1, 0, 0, []), (31, 0, .iaload, 1, 0, 0, []), (32, 0, .baload, 1, 3, 0, []), (33, 0, .ifCond .eq 7, 3, 0, 0, []), (36, 0, .iconst 1, 1, 0, 0, []), (37, 0, .goto 4, 3, 0, 0, []), (40, 0, .iconst 0, 1, 0, 0, []), (41, 0, .ireturn, 1, 1, 0, [])]
def m_Model_isCommon : List aT := [(0, [(0, 2), (1, 0)], [])]
def B_Model_isCommon_0 (X : Nat → List Int → AMem → Prop) (Q : Int → AMem → Prop) (x1 : Int) (σ : AMem) : Prop :=
  0 ≤ x1 ∧ x1 < 4096 ∧ 0 ≤ (σ 9826 x1) ∧ (σ 9826 x1) < 4096 ∧ (if (σ 9805 (σ 9826 x1)) = 2 then
  (if (σ 9790 68) = 0 then
    Q 1 σ
    else
    0 ≤ x1 ∧ x1 < 4096 ∧ 0 ≤ (σ 9826 x1) ∧ (σ 9826 x1) < 4096 ∧ (if (σ 9842 (σ 9826 x1)) = 0 then
      Q 0 σ
      else
      Q 1 σ))
  else
  Q 0 σ)
def B_Model_isCommon : (Nat → List Int → AMem → Prop) → (Int → AMem → Prop) → Nat → List Int → AMem → Prop := fun X Q j v σ => am_sel [(am_v2 (fun t x1 σ => if t = 9790 then B_Model_isCommon_0 X Q x1 σ else False))] j v σ
def T_Model_isCommon : List Int → AMem → (Int → AMem → Prop) → Prop := am_T B_Model_isCommon
abbrev y_Model_isCommon : MethodName := ⟨"LinkHouseModel", "isCommon", "(I)Z"⟩
def a_Model_isCommon : AC := (270, (y_Model_isCommon, prog_10_method_88_code, 2, (Option.some Jvm.ClassFile.FieldType.boolean)), [2, 0], 0, false, { frames := 0, cells := 0, slots := 0, locals := 0 }, T_Model_isCommon)
set_option maxRecDepth 100000 in
theorem ms_Model_isCommon : am_MSp a_Model_isCommon := am_ms_v 10016 9 10015 110011 8 rfl (by decide +kernel)
abbrev k_Model_isCommon : List AC := []
set_option maxRecDepth 100000 in
theorem s_Model_isCommon : (am_chkR { frames := 0, cells := 0, slots := 0, locals := 0 } k_Model_isCommon && am_chkN c_Model_isCommon { frames := 0, cells := 0, slots := 0, locals := 0 } && c_Model_isCommon.all (am_chk "LinkHouseModel" prog_10_method_88_code 2 (Option.some Jvm.ClassFile.FieldType.boolean) k_Model_isCommon) && c_Model_isCommon.all (am_chkL m_Model_isCommon) && decide (m_Model_isCommon[0]? = some (0, am_argp 0 [2, 0], [])) && decide (am_argn [2, 0] ≤ 2)) = true := by decide +kernel
set_option maxHeartbeats 150000 in
set_option maxRecDepth 100000 in
theorem h_Model_isCommon : ∀ X Q j v σ, B_Model_isCommon X Q j v σ → am_at GR k_Model_isCommon c_Model_isCommon m_Model_isCommon X Q 29 j v σ := fun X Q => am_sel_all (P := fun j v σ => am_at GR k_Model_isCommon c_Model_isCommon m_Model_isCommon X Q 29 j v σ) (⟨(am_v2_of (fun t x1 σ h => am_tk (fun e => by subst e; exact fun h => h) h)), trivial⟩)
set_option maxRecDepth 100000 in
theorem S_Model_isCommon (l : Launch) (w : AW) : am_S l w GR a_Model_isCommon := am_sound (rt := 0) (cal := k_Model_isCommon) 270 y_Model_isCommon prog_10_method_88_code 2 (Option.some Jvm.ClassFile.FieldType.boolean) [2, 0] false { frames := 0, cells := 0, slots := 0, locals := 0 } B_Model_isCommon "LinkHouseModel" c_Model_isCommon m_Model_isCommon 29 ms_Model_isCommon (by decide +kernel) rfl rfl (fun _ h => absurd h List.not_mem_nil) s_Model_isCommon h_Model_isCommon
set_option maxRecDepth 100000 in
theorem of_Model_isCommon {Q : Int → AMem → Prop} {x1 : Int} {σ : AMem} (h : ∀ X : Nat → List Int → AMem → Prop, (∀ (x1 : Int) (σ : AMem), B_Model_isCommon_0 X Q x1 σ → X 0 [9790, x1] σ) → X 0 [9790, x1] σ) : T_Model_isCommon [9790, x1] σ Q := fun X hX => h X (fun x1 σ h => hX 0 [9790, x1] σ h)
set_option maxRecDepth 100000 in
theorem iff_Model_isCommon {Q : Int → AMem → Prop} {X : Nat → List Int → AMem → Prop} {x1 : Int} {σ : AMem} : T_Model_isCommon [9790, x1] σ Q ↔ B_Model_isCommon_0 X Q x1 σ := ⟨fun h => h (fun j v σ => B_Model_isCommon X Q j v σ) (fun _ _ _ q => q), fun h _ hX => hX 0 _ _ h⟩
