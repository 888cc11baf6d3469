/-! methods: printed by gen/all.py -/
def c_Model_symbolsError : List aE := [(0, 1, .aload_n 0, 1, 0, 0, []), (1, 0, .iload_n 1, 1, 0, 0, []), (2, 0, .invokevirtual 317, 3, 196, 8, [8186]), (5, 0, .istore_n 2, 1, 0, 0, []), (6, 0, .iconst 0, 1, 0, 0, []), (7, 0, .istore_n 3, 1, 0, 0, []), (8, 0, .iconst 1, 1, 0, 0, []), (9, 0, .istore 4, 2, 0, 0, []), (11, 2, .iload 4, 2, 0, 0, []), (13, 0, .aload_n 0, 1, 0, 0, []), (14, 0, .iload_n 1, 1, 0, 0, []), (15, 0, .invokevirtual 313, 3, 185, 8, [8136]), (18, 0, .if_icmp .ge 31, 3, 0, 0, []), (21, 0, .iload_n 3, 1, 0, 0, []), (22, 0, .aload_n 0, 1, 0, 0, []), (23, 0, .iload_n 1, 1, 0, 0, []), (24, 0, .iload 4, 2, 0, 0, []), (26, 0, .invokevirtual 299, 3, 188, 8, [8143]), (29, 0, .ldc2_w 307, 3, 2, 0, [8172]), (32, 0, .lcmp, 1, 0, 0, []), (33, 0, .ifCond .ne 7, 3, 0, 0, []), (36, 0, .iconst 1, 1, 0, 0, []), (37, 0, .goto 4, 3, 0, 0, []), (40, 0, .iconst 0, 1, 0, 0, []), (41, 3, .iadd, 1, 0, 0, []), (42, 0, .istore_n 3, 1, 0, 0, []), (43, 0, .iinc 4 1, 3, 0, 0, []), (46, 0, .goto (-35), 3, 0, 0, []), (49, 0, .iload_n 3, 1, 0, 0, []), (50, 0, .iconst 1, 1, 0, 0, []), (51, 0, .if_icmp .le 5, 3, 0, 0, []), (54, 0, .iconst 5, 1, 0, 0, []), (55, 0, .ireturn, 1, 0, 0, []), (56, 0, .iload_n 3, 1, 0, 0, []), (57, 0, .ifCond .ne 5, 3, 0, 0, []), (60, 0, .iconst 0, 1, 0, 0, []), (61, 0, .ireturn, 1, 0, 0, []), (62, 0, .aload_n 0, 1, 0, 0, []), (63, 0, .iload_n 1, 1, 0, 0, []), (64, 0, .iload_n 2, 1, 0, 0, []), (65, 0, .invokevirtual 320, 3, 190, 8, [8160]), (68, 0, .ldc2_w 360, 3, 24, 0, [8190]), (71, 0, .lrem, 1, 0, 0, []), (72, 0, .lconst 0, 1, 0, 0, []), (73, 0, .lcmp, 1, 0, 0, []), (74, 0, .ifCond .ne 31, 3, 0, 0, []), (77, 0, .aload_n 0, 1, 0, 0, []), (78, 0, .iload_n 1, 1, 0, 0, []), (79, 0, .iload_n 2, 1, 0, 0, []), (80, 0, .invokevirtual 320, 3, 190, 8, [8160]), (83, 0, .lconst 0, 1, 0, 0, []), (84, 0, .lcmp, 1, 0, 0, []), (85, 0, .ifCond .lt 20, 3, 0, 0, []), (88, 0, .aload_n 0, 1, 0, 0, []), (89, 0, .iload_n 1, 1, 0, 0, []), (90, 0, .iload_n 2, 1, 0, 0, []), (91, 0, .invokevirtual 320, 3, 190, 8, [8160]), (94, 0, .ldc2_w 362, 3, 1536, 0, [8191]), (97, 0, .lcmp, 1, 0, 0, []), (98, 0, .ifCond .gt 7, 3, 0, 0, []), (101, 0, .iconst 1, 1, 0, 0, []), (102, 0, .goto 4, 3, 0, 0, []), (105, 4, .iconst 0, 1, 0, 0, []), (106, 5, .istore 4, 2, 0, 0, []), (108, 0, .aload_n 0, 1, 0, 0, []), (109, 0, .iload_n 1, 1, 0, 0, []), (110, 0, .iload_n 2, 1, 0, 0, []), (111, 0, .invokevirtual 329, 3, 197, 8, [8192]), (114, 0, .aload_n 0, 1, 0, 0, []), (115, 0, .iload_n 1, 1, 0, 0, []), (116, 0, .invokevirtual 313, 3, 185, 8, [8136]), (119, 0, .i2l, 1, 0, 0, []), (120, 0, .lcmp, 1, 0, 0, []), (121, 0, .ifCond .ge 26, 3, 0, 0, []), (124, 0, .aload_n 0, 1, 0, 0, []), (125, 0, .iload_n 1, 1, 0, 0, []), (126, 0, .aload_n 0, 1, 0, 0, []), (127, 0, .iload_n 1, 1, 0, 0, []), (128, 0, .iload_n 2, 1, 0, 0, []), (129, 0, .invokevirtual 329, 3, 197, 8, [8192]), (132, 0, .l2i, 1, 0, 0, []), (133, 0, .invokevirtual 299, 3, 188, 8, [8143]), (136, 0, .ldc2_w 364, 3, 3, 0, [8196]), (139, 0, .lcmp, 1, 0, 0, []), (140, 0, .ifCond .ne 7, 3, 0, 0, []), (143, 0, .iconst 1, 1, 0, 0, []), (144, 0, .goto 4, 3, 0, 0, []), (147, 6, .iconst 0, 1, 0, 0, []), (148, 7, .istore 5, 2, 0, 0, []), (150, 0, .iload 4, 2, 0, 0, []), (152, 0, .ifCond .eq 8, 3, 0, 0, []), (155, 0, .iload 5, 2, 0, 0, []), (157, 0, .ifCond .ne 5, 3, 0, 0, []), (160, 0, .iconst 5, 1, 0, 0, []), (161, 0, .ireturn, 1, 0, 0, []), (162, 0, .iconst 1, 1, 0, 0, []), (163, 0, .istore 6, 2, 0, 0, []), (165, 8, .iload 6, 2, 0, 0, []), (167, 0, .aload_n 0, 1, 0, 0, []), (168, 0, .iload_n 1, 1, 0, 0, []), (169, 0, .invokevirtual 366, 3, 198, 8, [8197]), (172, 0, .if_icmp .ge 22, 3, 0, 0, []), (175, 0, .aload_n 0, 1, 0, 0, []), (176, 0, .iload_n 1, 1, 0, 0, []), (177, 0, .iload 6, 2, 0, 0, []), (179, 0, .invokevirtual 369, 3, 205, 8, [8201]), (182, 0, .ifCond .ne 6, 3, 0, 0, []), (185, 0, .bipush 6, 2, 0, 0, []), (187, 0, .ireturn, 1, 0, 0, []), (188, 0, .iinc 6 1, 3, 0, 0, []), (191, 0, .goto (-26), 3, 0, 0, []), (194, 0, .iconst 0, 1, 0, 0, []), (195, 0, .ireturn, 1, 0, 0, [])]
def m_Model_symbolsError : List aT := [(0, [(0, 2), (1, 0)], []), (11, [(0, 2), (1, 0), (2, 0), (3, 0), (4, 0)], []), (41, [(0, 2), (1, 0), (2, 0), (4, 0)], [0, 0]), (105, [(0, 2), (1, 0), (2, 0)], []), (106, [(0, 2), (1, 0), (2, 0)], [0]), (147, [(0, 2), (1, 0), (4, 0)], []), (148, [(0, 2), (1, 0), (4, 0)], [0]), (165, [(0, 2), (1, 0), (6, 0)], [])]
def B_Model_symbolsError_0 (X : Nat → List Int → AMem → Prop) (Q : Int → AMem → Prop) (x1 : Int) (σ : AMem) : Prop :=
  T_Model_symbols [9790, x1] σ (fun r1 σ2 => X 1 [9790, x1, r1, 0, 1] σ2)
def B_Model_symbolsError_1 (X : Nat → List Int → AMem → Prop) (Q : Int → AMem → Prop) (x1 x2 x3 x4 : Int) (σ : AMem) : Prop :=
  T_Model_sections [9790, x1] σ (fun r1 σ2 => (if x4 < r1 then
  T_Model_type [9790, x1, x4] σ2 (fun r9 σ10 => (if r9 = 2 then
    X 2 [9790, x1, x2, x4, 1, x3] σ10
    else
    X 2 [9790, x1, x2, x4, 0, x3] σ10))
  else
  (if 1 < x3 then
    Q 5 σ2
    else
    (if x3 = 0 then
      Q 0 σ2
      else
      T_Model_size [9790, x1, x2] σ2 (fun r3 σ4 => (0 : Int) < 24 ∧ (if (r3.tmod 24) = 0 then
        T_Model_size [9790, x1, x2] σ4 (fun r5 σ6 => (if r5 < 0 then
          X 3 [9790, x1, x2] σ6
          else
          T_Model_size [9790, x1, x2] σ6 (fun r7 σ8 => (if 1536 < r7 then
            X 3 [9790, x1, x2] σ8
            else
            X 4 [9790, x1, x2, 1] σ8))))
        else
        X 3 [9790, x1, x2] σ4))))))
def B_Model_symbolsError_2 (X : Nat → List Int → AMem → Prop) (Q : Int → AMem → Prop) (x1 x2 x4 s0 s1 : Int) (σ : AMem) : Prop :=
  am_r32 (s1 + s0) ∧ am_r32 (x4 + 1) ∧ X 1 [9790, x1, x2, (s1 + s0), (x4 + 1)] σ
def B_Model_symbolsError_3 (X : Nat → List Int → AMem → Prop) (Q : Int → AMem → Prop) (x1 x2 : Int) (σ : AMem) : Prop :=
  X 4 [9790, x1, x2, 0] σ
def B_Model_symbolsError_4 (X : Nat → List Int → AMem → Prop) (Q : Int → AMem → Prop) (x1 x2 s0 : Int) (σ : AMem) : Prop :=
  T_Model_linkOf [9790, x1, x2] σ (fun r1 σ2 => T_Model_sections [9790, x1] σ2 (fun r3 σ4 => (if r1 < r3 then
  T_Model_linkOf [9790, x1, x2] σ4 (fun r5 σ6 => T_Model_type [9790, x1, (w32 r5)] σ6 (fun r7 σ8 => (if r7 = 3 then
    X 6 [9790, x1, s0, 1] σ8
    else
    X 5 [9790, x1, s0] σ8)))
  else
  X 5 [9790, x1, s0] σ4)))
def B_Model_symbolsError_5 (X : Nat → List Int → AMem → Prop) (Q : Int → AMem → Prop) (x1 x4 : Int) (σ : AMem) : Prop :=
  X 6 [9790, x1, x4, 0] σ
def B_Model_symbolsError_6 (X : Nat → List Int → AMem → Prop) (Q : Int → AMem → Prop) (x1 x4 s0 : Int) (σ : AMem) : Prop :=
  (if x4 = 0 then
  Q 5 σ
  else
  (if s0 = 0 then
    Q 5 σ
    else
    X 7 [9790, x1, 1] σ))
def B_Model_symbolsError_7 (X : Nat → List Int → AMem → Prop) (Q : Int → AMem → Prop) (x1 x6 : Int) (σ : AMem) : Prop :=
  T_Model_symbolMany [9790, x1] σ (fun r1 σ2 => (if x6 < r1 then
  T_Model_isSymbol [9790, x1, x6] σ2 (fun r3 σ4 => (if r3 = 0 then
    Q 6 σ4
    else
    am_r32 (x6 + 1) ∧ X 7 [9790, x1, (x6 + 1)] σ4))
  else
  Q 0 σ2))
def B_Model_symbolsError : (Nat → List Int → AMem → Prop) → (Int → AMem → Prop) → Nat → List Int → AMem → Prop := fun X Q j v σ => am_sel [(am_v2 (fun t x1 σ => if t = 9790 then B_Model_symbolsError_0 X Q x1 σ else False)), (am_v5 (fun t x1 x2 x3 x4 σ => if t = 9790 then B_Model_symbolsError_1 X Q x1 x2 x3 x4 σ else False)), (am_v6 (fun t x1 x2 x4 s0 s1 σ => if t = 9790 then B_Model_symbolsError_2 X Q x1 x2 x4 s0 s1 σ else False)), (am_v3 (fun t x1 x2 σ => if t = 9790 then B_Model_symbolsError_3 X Q x1 x2 σ else False)), (am_v4 (fun t x1 x2 s0 σ => if t = 9790 then B_Model_symbolsError_4 X Q x1 x2 s0 σ else False)), (am_v3 (fun t x1 x4 σ => if t = 9790 then B_Model_symbolsError_5 X Q x1 x4 σ else False)), (am_v4 (fun t x1 x4 s0 σ => if t = 9790 then B_Model_symbolsError_6 X Q x1 x4 s0 σ else False)), (am_v3 (fun t x1 x6 σ => if t = 9790 then B_Model_symbolsError_7 X Q x1 x6 σ else False))] j v σ
def T_Model_symbolsError : List Int → AMem → (Int → AMem → Prop) → Prop := am_T B_Model_symbolsError
abbrev y_Model_symbolsError : MethodName := ⟨"LinkHouseModel", "symbolsError", "(I)I"⟩
def a_Model_symbolsError : AC := (206, (y_Model_symbolsError, prog_10_method_30_code, 7, (Option.some Jvm.ClassFile.FieldType.int)), [2, 0], 0, false, { frames := 7, cells := 0, slots := 0, locals := 222 }, T_Model_symbolsError)
set_option maxRecDepth 100000 in
theorem ms_Model_symbolsError : am_MSp a_Model_symbolsError := am_ms_v 8185 9 8184 106009 8 rfl (by decide +kernel)
abbrev k_Model_symbolsError : List AC := [a_Model_symbols, a_Model_sections, a_Model_type, a_Model_size, a_Model_linkOf, a_Model_symbolMany, a_Model_isSymbol]
set_option maxRecDepth 100000 in
theorem s_Model_symbolsError : (am_chkR { frames := 7, cells := 0, slots := 0, locals := 222 } k_Model_symbolsError && am_chkN c_Model_symbolsError { frames := 7, cells := 0, slots := 0, locals := 222 } && c_Model_symbolsError.all (am_chk "LinkHouseModel" prog_10_method_30_code 7 (Option.some Jvm.ClassFile.FieldType.int) k_Model_symbolsError) && c_Model_symbolsError.all (am_chkL m_Model_symbolsError) && decide (m_Model_symbolsError[0]? = some (0, am_argp 0 [2, 0], [])) && decide (am_argn [2, 0] ≤ 7)) = true := by decide +kernel
set_option maxHeartbeats 150000 in
set_option maxRecDepth 100000 in
theorem h_Model_symbolsError : ∀ X Q j v σ, B_Model_symbolsError X Q j v σ → am_at GR k_Model_symbolsError c_Model_symbolsError m_Model_symbolsError X Q 118 j v σ := fun X Q => am_sel_all (P := fun j v σ => am_at GR k_Model_symbolsError c_Model_symbolsError m_Model_symbolsError X Q 118 j v σ) (⟨(am_v2_of (fun t x1 σ h => am_tk (fun e => by subst e; exact fun h => h) h)), ⟨(am_v5_of (fun t x1 x2 x3 x4 σ h => am_tk (fun e => by subst e; exact fun h => h) h)), ⟨(am_v6_of (fun t x1 x2 x4 s0 s1 σ h => am_tk (fun e => by subst e; exact fun h => h) h)), ⟨(am_v3_of (fun t x1 x2 σ h => am_tk (fun e => by subst e; exact fun h => h) h)), ⟨(am_v4_of (fun t x1 x2 s0 σ h => am_tk (fun e => by subst e; exact fun h => h) h)), ⟨(am_v3_of (fun t x1 x4 σ h => am_tk (fun e => by subst e; exact fun h => h) h)), ⟨(am_v4_of (fun t x1 x4 s0 σ h => am_tk (fun e => by subst e; exact fun h => h) h)), ⟨(am_v3_of (fun t x1 x6 σ h => am_tk (fun e => by subst e; exact fun h => h) h)), trivial⟩⟩⟩⟩⟩⟩⟩⟩)
set_option maxRecDepth 100000 in
theorem S_Model_symbolsError (l : Launch) (w : AW) : am_S l w GR a_Model_symbolsError := am_sound (rt := 0) (cal := k_Model_symbolsError) 206 y_Model_symbolsError prog_10_method_30_code 7 (Option.some Jvm.ClassFile.FieldType.int) [2, 0] false { frames := 7, cells := 0, slots := 0, locals := 222 } B_Model_symbolsError "LinkHouseModel" c_Model_symbolsError m_Model_symbolsError 118 ms_Model_symbolsError (by decide +kernel) rfl rfl (am_cal (S_Model_symbols l w) (am_cal (S_Model_sections l w) (am_cal (S_Model_type l w) (am_cal (S_Model_size l w) (am_cal (S_Model_linkOf l w) (am_cal (S_Model_symbolMany l w) (am_cal (S_Model_isSymbol l w) (fun _ h => absurd h List.not_mem_nil)))))))) s_Model_symbolsError h_Model_symbolsError
set_option maxRecDepth 100000 in
theorem of_Model_symbolsError {Q : Int → AMem → Prop} {x1 : Int} {σ : AMem} (h : ∀ X : Nat → List Int → AMem → Prop, (∀ (x1 : Int) (σ : AMem), B_Model_symbolsError_0 X Q x1 σ → X 0 [9790, x1] σ) → (∀ (x1 x2 x3 x4 : Int) (σ : AMem), B_Model_symbolsError_1 X Q x1 x2 x3 x4 σ → X 1 [9790, x1, x2, x3, x4] σ) → (∀ (x1 x2 x4 s0 s1 : Int) (σ : AMem), B_Model_symbolsError_2 X Q x1 x2 x4 s0 s1 σ → X 2 [9790, x1, x2, x4, s0, s1] σ) → (∀ (x1 x2 : Int) (σ : AMem), B_Model_symbolsError_3 X Q x1 x2 σ → X 3 [9790, x1, x2] σ) → (∀ (x1 x2 s0 : Int) (σ : AMem), B_Model_symbolsError_4 X Q x1 x2 s0 σ → X 4 [9790, x1, x2, s0] σ) → (∀ (x1 x4 : Int) (σ : AMem), B_Model_symbolsError_5 X Q x1 x4 σ → X 5 [9790, x1, x4] σ) → (∀ (x1 x4 s0 : Int) (σ : AMem), B_Model_symbolsError_6 X Q x1 x4 s0 σ → X 6 [9790, x1, x4, s0] σ) → (∀ (x1 x6 : Int) (σ : AMem), B_Model_symbolsError_7 X Q x1 x6 σ → X 7 [9790, x1, x6] σ) → X 0 [9790, x1] σ) : T_Model_symbolsError [9790, x1] σ Q := fun X hX => h X (fun x1 σ h => hX 0 [9790, x1] σ h) (fun x1 x2 x3 x4 σ h => hX 1 [9790, x1, x2, x3, x4] σ h) (fun x1 x2 x4 s0 s1 σ h => hX 2 [9790, x1, x2, x4, s0, s1] σ h) (fun x1 x2 σ h => hX 3 [9790, x1, x2] σ h) (fun x1 x2 s0 σ h => hX 4 [9790, x1, x2, s0] σ h) (fun x1 x4 σ h => hX 5 [9790, x1, x4] σ h) (fun x1 x4 s0 σ h => hX 6 [9790, x1, x4, s0] σ h) (fun x1 x6 σ h => hX 7 [9790, x1, x6] σ h)
def c_Model_info : List aE := [(0, 1, .aload_n 0, 1, 0, 0, []), (1, 0, .aload_n 0, 1, 0, 0, []), (2, 0, .iload_n 1, 1, 0, 0, []), (3, 0, .iload_n 2, 1, 0, 0, []), (4, 0, .invokevirtual 295, 3, 187, 8, [8147]), (7, 0, .bipush 44, 2, 0, 0, []), (9, 0, .iadd, 1, 0, 0, []), (10, 0, .iconst 4, 1, 0, 0, []), (11, 0, .invokevirtual 291, 3, 183, 8, [8120]), (14, 0, .lreturn, 1, 0, 0, [])]
def m_Model_info : List aT := [(0, [(0, 2), (1, 0), (2, 0)], [])]
def B_Model_info_0 (X : Nat → List Int → AMem → Prop) (Q : Int → AMem → Prop) (x1 x2 : Int) (σ : AMem) : Prop :=
  T_Model_row [9790, x1, x2] σ (fun r1 σ2 => am_r32 (r1 + 44) ∧ T_Model_num [9790, (r1 + 44), 4] σ2 (fun r3 σ4 => Q r3 σ4))
def B_Model_info : (Nat → List Int → AMem → Prop) → (Int → AMem → Prop) → Nat → List Int → AMem → Prop := fun X Q j v σ => am_sel [(am_v3 (fun t x1 x2 σ => if t = 9790 then B_Model_info_0 X Q x1 x2 σ else False))] j v σ
def T_Model_info : List Int → AMem → (Int → AMem → Prop) → Prop := am_T B_Model_info
abbrev y_Model_info : MethodName := ⟨"LinkHouseModel", "info", "(II)J"⟩
def a_Model_info : AC := (207, (y_Model_info, prog_10_method_13_code, 3, (Option.some Jvm.ClassFile.FieldType.long)), [2, 0, 0], 1, false, { frames := 2, cells := 0, slots := 0, locals := 63 }, T_Model_info)
set_option maxRecDepth 100000 in
theorem ms_Model_info : am_MSp a_Model_info := am_ms_v 9003 9 9002 107006 8 rfl (by decide +kernel)
abbrev k_Model_info : List AC := [a_Model_row, a_Model_num]
set_option maxRecDepth 100000 in
theorem s_Model_info : (am_chkR { frames := 2, cells := 0, slots := 0, locals := 63 } k_Model_info && am_chkN c_Model_info { frames := 2, cells := 0, slots := 0, locals := 63 } && c_Model_info.all (am_chk "LinkHouseModel" prog_10_method_13_code 3 (Option.some Jvm.ClassFile.FieldType.long) k_Model_info) && c_Model_info.all (am_chkL m_Model_info) && decide (m_Model_info[0]? = some (0, am_argp 0 [2, 0, 0], [])) && decide (am_argn [2, 0, 0] ≤ 3)) = true := by decide +kernel
set_option maxHeartbeats 150000 in
set_option maxRecDepth 100000 in
theorem h_Model_info : ∀ X Q j v σ, B_Model_info X Q j v σ → am_at GR k_Model_info c_Model_info m_Model_info X Q 20 j v σ := fun X Q => am_sel_all (P := fun j v σ => am_at GR k_Model_info c_Model_info m_Model_info X Q 20 j v σ) (⟨(am_v3_of (fun t x1 x2 σ h => am_tk (fun e => by subst e; exact fun h => h) h)), trivial⟩)
set_option maxRecDepth 100000 in
theorem S_Model_info (l : Launch) (w : AW) : am_S l w GR a_Model_info := am_sound (rt := 1) (cal := k_Model_info) 207 y_Model_info prog_10_method_13_code 3 (Option.some Jvm.ClassFile.FieldType.long) [2, 0, 0] false { frames := 2, cells := 0, slots := 0, locals := 63 } B_Model_info "LinkHouseModel" c_Model_info m_Model_info 20 ms_Model_info (by decide +kernel) rfl rfl (am_cal (S_Model_row l w) (am_cal (S_Model_num l w) (fun _ h => absurd h List.not_mem_nil))) s_Model_info h_Model_info
set_option maxRecDepth 100000 in
theorem of_Model_info {Q : Int → AMem → Prop} {x1 x2 : Int} {σ : AMem} (h : ∀ X : Nat → List Int → AMem → Prop, (∀ (x1 x2 : Int) (σ : AMem), B_Model_info_0 X Q x1 x2 σ → X 0 [9790, x1, x2] σ) → X 0 [9790, x1, x2] σ) : T_Model_info [9790, x1, x2] σ Q := fun X hX => h X (fun x1 x2 σ h => hX 0 [9790, x1, x2] σ h)
set_option maxRecDepth 100000 in
theorem iff_Model_info {Q : Int → AMem → Prop} {X : Nat → List Int → AMem → Prop} {x1 x2 : Int} {σ : AMem} : T_Model_info [9790, x1, x2] σ Q ↔ B_Model_info_0 X Q x1 x2 σ := ⟨fun h => h (fun j v σ => B_Model_info X Q j v σ) (fun _ _ _ q => q), fun h _ hX => hX 0 _ _ h⟩
def c_Model_isSites : List aE := [(0, 1, .aload_n 0, 1, 0, 0, []), (1, 0, .iload_n 1, 1, 0, 0, []), (2, 0, .iload_n 2, 1, 0, 0, []), (3, 0, .invokevirtual 299, 3, 188, 8, [8143]), (6, 0, .ldc2_w 311, 3, 4, 0, [8239]), (9, 0, .lcmp, 1, 0, 0, []), (10, 0, .ifCond .ne 38, 3, 0, 0, []), (13, 0, .aload_n 0, 1, 0, 0, []), (14, 0, .iload_n 1, 1, 0, 0, []), (15, 0, .iload_n 2, 1, 0, 0, []), (16, 0, .invokevirtual 408, 3, 207, 8, [9000]), (19, 0, .aload_n 0, 1, 0, 0, []), (20, 0, .iload_n 1, 1, 0, 0, []), (21, 0, .invokevirtual 313, 3, 185, 8, [8136]), (24, 0, .i2l, 1, 0, 0, []), (25, 0, .lcmp, 1, 0, 0, []), (26, 0, .ifCond .ge 22, 3, 0, 0, []), (29, 0, .aload_n 0, 1, 0, 0, []), (30, 0, .iload_n 1, 1, 0, 0, []), (31, 0, .aload_n 0, 1, 0, 0, []), (32, 0, .iload_n 1, 1, 0, 0, []), (33, 0, .iload_n 2, 1, 0, 0, []), (34, 0, .invokevirtual 408, 3, 207, 8, [9000]), (37, 0, .l2i, 1, 0, 0, []), (38, 0, .invokevirtual 347, 3, 192, 8, [8164]), (41, 0, .ifCond .eq 7, 3, 0, 0, []), (44, 0, .iconst 1, 1, 0, 0, []), (45, 0, .goto 4, 3, 0, 0, []), (48, 0, .iconst 0, 1, 0, 0, []), (49, 0, .ireturn, 1, 1, 0, [])]
def m_Model_isSites : List aT := [(0, [(0, 2), (1, 0), (2, 0)], [])]
def B_Model_isSites_0 (X : Nat → List Int → AMem → Prop) (Q : Int → AMem → Prop) (x1 x2 : Int) (σ : AMem) : Prop :=
  T_Model_type [9790, x1, x2] σ (fun r1 σ2 => (if r1 = 4 then
  T_Model_info [9790, x1, x2] σ2 (fun r3 σ4 => T_Model_sections [9790, x1] σ4 (fun r5 σ6 => (if r3 < r5 then
    T_Model_info [9790, x1, x2] σ6 (fun r7 σ8 => T_Model_isKept [9790, x1, (w32 r7)] σ8 (fun r9 σ10 => (if r9 = 0 then
      Q 0 σ10
      else
      Q 1 σ10)))
    else
    Q 0 σ6)))
  else
  Q 0 σ2))
def B_Model_isSites : (Nat → List Int → AMem → Prop) → (Int → AMem → Prop) → Nat → List Int → AMem → Prop := fun X Q j v σ => am_sel [(am_v3 (fun t x1 x2 σ => if t = 9790 then B_Model_isSites_0 X Q x1 x2 σ else False))] j v σ
def T_Model_isSites : List Int → AMem → (Int → AMem → Prop) → Prop := am_T B_Model_isSites
abbrev y_Model_isSites : MethodName := ⟨"LinkHouseModel", "isSites", "(II)Z"⟩
def a_Model_isSites : AC := (208, (y_Model_isSites, prog_10_method_35_code, 3, (Option.some Jvm.ClassFile.FieldType.boolean)), [2, 0, 0], 0, false, { frames := 4, cells := 0, slots := 0, locals := 123 }, T_Model_isSites)
set_option maxRecDepth 100000 in
theorem ms_Model_isSites : am_MSp a_Model_isSites := am_ms_v 8238 9 8237 107005 8 rfl (by decide +kernel)
abbrev k_Model_isSites : List AC := [a_Model_type, a_Model_info, a_Model_sections, a_Model_isKept]
set_option maxRecDepth 100000 in
theorem s_Model_isSites : (am_chkR { frames := 4, cells := 0, slots := 0, locals := 123 } k_Model_isSites && am_chkN c_Model_isSites { frames := 4, cells := 0, slots := 0, locals := 123 } && c_Model_isSites.all (am_chk "LinkHouseModel" prog_10_method_35_code 3 (Option.some Jvm.ClassFile.FieldType.boolean) k_Model_isSites) && c_Model_isSites.all (am_chkL m_Model_isSites) && decide (m_Model_isSites[0]? = some (0, am_argp 0 [2, 0, 0], [])) && decide (am_argn [2, 0, 0] ≤ 3)) = true := by decide +kernel
set_option maxHeartbeats 150000 in
set_option maxRecDepth 100000 in
theorem h_Model_isSites : ∀ X Q j v σ, B_Model_isSites X Q j v σ → am_at GR k_Model_isSites c_Model_isSites m_Model_isSites X Q 35 j v σ := fun X Q => am_sel_all (P := fun j v σ => am_at GR k_Model_isSites c_Model_isSites m_Model_isSites X Q 35 j v σ) (⟨(am_v3_of (fun t x1 x2 σ h => am_tk (fun e => by subst e; exact fun h => h) h)), trivial⟩)
set_option maxRecDepth 100000 in
theorem S_Model_isSites (l : Launch) (w : AW) : am_S l w GR a_Model_isSites := am_sound (rt := 0) (cal := k_Model_isSites) 208 y_Model_isSites prog_10_method_35_code 3 (Option.some Jvm.ClassFile.FieldType.boolean) [2, 0, 0] false { frames := 4, cells := 0, slots := 0, locals := 123 } B_Model_isSites "LinkHouseModel" c_Model_isSites m_Model_isSites 35 ms_Model_isSites (by decide +kernel) rfl rfl (am_cal (S_Model_type l w) (am_cal (S_Model_info l w) (am_cal (S_Model_sections l w) (am_cal (S_Model_isKept l w) (fun _ h => absurd h List.not_mem_nil))))) s_Model_isSites h_Model_isSites
set_option maxRecDepth 100000 in
theorem of_Model_isSites {Q : Int → AMem → Prop} {x1 x2 : Int} {σ : AMem} (h : ∀ X : Nat → List Int → AMem → Prop, (∀ (x1 x2 : Int) (σ : AMem), B_Model_isSites_0 X Q x1 x2 σ → X 0 [9790, x1, x2] σ) → X 0 [9790, x1, x2] σ) : T_Model_isSites [9790, x1, x2] σ Q := fun X hX => h X (fun x1 x2 σ h => hX 0 [9790, x1, x2] σ h)
set_option maxRecDepth 100000 in
theorem iff_Model_isSites {Q : Int → AMem → Prop} {X : Nat → List Int → AMem → Prop} {x1 x2 : Int} {σ : AMem} : T_Model_isSites [9790, x1, x2] σ Q ↔ B_Model_isSites_0 X Q x1 x2 σ := ⟨fun h => h (fun j v σ => B_Model_isSites X Q j v σ) (fun _ _ _ q => q), fun h _ hX => hX 0 _ _ h⟩
def c_Model_siteMany : List aE := [(0, 1, .aload_n 0, 1, 0, 0, []), (1, 0, .iload_n 1, 1, 0, 0, []), (2, 0, .iload_n 2, 1, 0, 0, []), (3, 0, .invokevirtual 320, 3, 190, 8, [8160]), (6, 0, .ldc2_w 360, 3, 24, 0, [8190]), (9, 0, .ldiv, 1, 0, 0, []), (10, 0, .l2i, 1, 0, 0, []), (11, 0, .ireturn, 1, 0, 0, [])]
def m_Model_siteMany : List aT := [(0, [(0, 2), (1, 0), (2, 0)], [])]
def B_Model_siteMany_0 (X : Nat → List Int → AMem → Prop) (Q : Int → AMem → Prop) (x1 x2 : Int) (σ : AMem) : Prop :=
  T_Model_size [9790, x1, x2] σ (fun r1 σ2 => (0 : Int) < 24 ∧ Q (w32 (r1.tdiv 24)) σ2)
def B_Model_siteMany : (Nat → List Int → AMem → Prop) → (Int → AMem → Prop) → Nat → List Int → AMem → Prop := fun X Q j v σ => am_sel [(am_v3 (fun t x1 x2 σ => if t = 9790 then B_Model_siteMany_0 X Q x1 x2 σ else False))] j v σ
def T_Model_siteMany : List Int → AMem → (Int → AMem → Prop) → Prop := am_T B_Model_siteMany
abbrev y_Model_siteMany : MethodName := ⟨"LinkHouseModel", "siteMany", "(II)I"⟩
def a_Model_siteMany : AC := (209, (y_Model_siteMany, prog_10_method_36_code, 3, (Option.some Jvm.ClassFile.FieldType.int)), [2, 0, 0], 0, false, { frames := 3, cells := 0, slots := 0, locals := 93 }, T_Model_siteMany)
set_option maxRecDepth 100000 in
theorem ms_Model_siteMany : am_MSp a_Model_siteMany := am_ms_v 9007 9 9006 107007 8 rfl (by decide +kernel)
abbrev k_Model_siteMany : List AC := [a_Model_size]
set_option maxRecDepth 100000 in
theorem s_Model_siteMany : (am_chkR { frames := 3, cells := 0, slots := 0, locals := 93 } k_Model_siteMany && am_chkN c_Model_siteMany { frames := 3, cells := 0, slots := 0, locals := 93 } && c_Model_siteMany.all (am_chk "LinkHouseModel" prog_10_method_36_code 3 (Option.some Jvm.ClassFile.FieldType.int) k_Model_siteMany) && c_Model_siteMany.all (am_chkL m_Model_siteMany) && decide (m_Model_siteMany[0]? = some (0, am_argp 0 [2, 0, 0], [])) && decide (am_argn [2, 0, 0] ≤ 3)) = true := by decide +kernel
set_option maxHeartbeats 150000 in
set_option maxRecDepth 100000 in
theorem h_Model_siteMany : ∀ X Q j v σ, B_Model_siteMany X Q j v σ → am_at GR k_Model_siteMany c_Model_siteMany m_Model_siteMany X Q 20 j v σ := fun X Q => am_sel_all (P := fun j v σ => am_at GR k_Model_siteMany c_Model_siteMany m_Model_siteMany X Q 20 j v σ) (⟨(am_v3_of (fun t x1 x2 σ h => am_tk (fun e => by subst e; exact fun h => h) h)), trivial⟩)
set_option maxRecDepth 100000 in
theorem S_Model_siteMany (l : Launch) (w : AW) : am_S l w GR a_Model_siteMany := am_sound (rt := 0) (cal := k_Model_siteMany) 209 y_Model_siteMany prog_10_method_36_code 3 (Option.some Jvm.ClassFile.FieldType.int) [2, 0, 0] false { frames := 3, cells := 0, slots := 0, locals := 93 } B_Model_siteMany "LinkHouseModel" c_Model_siteMany m_Model_siteMany 20 ms_Model_siteMany (by decide +kernel) rfl rfl (am_cal (S_Model_size l w) (fun _ h => absurd h List.not_mem_nil)) s_Model_siteMany h_Model_siteMany
set_option maxRecDepth 100000 in
theorem of_Model_siteMany {Q : Int → AMem → Prop} {x1 x2 : Int} {σ : AMem} (h : ∀ X : Nat → List Int → AMem → Prop, (∀ (x1 x2 : Int) (σ : AMem), B_Model_siteMany_0 X Q x1 x2 σ → X 0 [9790, x1, x2] σ) → X 0 [9790, x1, x2] σ) : T_Model_siteMany [9790, x1, x2] σ Q := fun X hX => h X (fun x1 x2 σ h => hX 0 [9790, x1, x2] σ h)
set_option maxRecDepth 100000 in
theorem iff_Model_siteMany {Q : Int → AMem → Prop} {X : Nat → List Int → AMem → Prop} {x1 x2 : Int} {σ : AMem} : T_Model_siteMany [9790, x1, x2] σ Q ↔ B_Model_siteMany_0 X Q x1 x2 σ := ⟨fun h => h (fun j v σ => B_Model_siteMany X Q j v σ) (fun _ _ _ q => q), fun h _ hX => hX 0 _ _ h⟩
def c_Model_site : List aE := [(0, 1, .iload_n 1, 1, 0, 0, []), (1, 0, .aload_n 0, 1, 0, 0, []), (2, 0, .iload_n 1, 1, 0, 0, []), (3, 0, .iload_n 2, 1, 0, 0, []), (4, 0, .invokevirtual 323, 3, 189, 8, [8156]), (7, 0, .l2i, 1, 0, 0, []), (8, 0, .iadd, 1, 0, 0, []), (9, 0, .bipush 24, 2, 0, 0, []), (11, 0, .iload_n 3, 1, 0, 0, []), (12, 0, .imul, 1, 0, 0, []), (13, 0, .iadd, 1, 0, 0, []), (14, 0, .ireturn, 1, 0, 0, [])]
def m_Model_site : List aT := [(0, [(0, 2), (1, 0), (2, 0), (3, 0)], [])]
def B_Model_site_0 (X : Nat → List Int → AMem → Prop) (Q : Int → AMem → Prop) (x1 x2 x3 : Int) (σ : AMem) : Prop :=
  T_Model_beginning [9790, x1, x2] σ (fun r1 σ2 => am_r32 (x1 + (w32 r1)) ∧ am_r32 (24 * x3) ∧ am_r32 ((x1 + (w32 r1)) + (24 * x3)) ∧ Q ((x1 + (w32 r1)) + (24 * x3)) σ2)
def B_Model_site : (Nat → List Int → AMem → Prop) → (Int → AMem → Prop) → Nat → List Int → AMem → Prop := fun X Q j v σ => am_sel [(am_v4 (fun t x1 x2 x3 σ => if t = 9790 then B_Model_site_0 X Q x1 x2 x3 σ else False))] j v σ
def T_Model_site : List Int → AMem → (Int → AMem → Prop) → Prop := am_T B_Model_site
abbrev y_Model_site : MethodName := ⟨"LinkHouseModel", "site", "(III)I"⟩
def a_Model_site : AC := (210, (y_Model_site, prog_10_method_37_code, 4, (Option.some Jvm.ClassFile.FieldType.int)), [2, 0, 0, 0], 0, false, { frames := 3, cells := 0, slots := 0, locals := 93 }, T_Model_site)
set_option maxRecDepth 100000 in
theorem ms_Model_site : am_MSp a_Model_site := am_ms_v 9015 9 9014 107009 8 rfl (by decide +kernel)
abbrev k_Model_site : List AC := [a_Model_beginning]
set_option maxRecDepth 100000 in
theorem s_Model_site : (am_chkR { frames := 3, cells := 0, slots := 0, locals := 93 } k_Model_site && am_chkN c_Model_site { frames := 3, cells := 0, slots := 0, locals := 93 } && c_Model_site.all (am_chk "LinkHouseModel" prog_10_method_37_code 4 (Option.some Jvm.ClassFile.FieldType.int) k_Model_site) && c_Model_site.all (am_chkL m_Model_site) && decide (m_Model_site[0]? = some (0, am_argp 0 [2, 0, 0, 0], [])) && decide (am_argn [2, 0, 0, 0] ≤ 4)) = true := by decide +kernel
set_option maxHeartbeats 150000 in
set_option maxRecDepth 100000 in
theorem h_Model_site : ∀ X Q j v σ, B_Model_site X Q j v σ → am_at GR k_Model_site c_Model_site m_Model_site X Q 20 j v σ := fun X Q => am_sel_all (P := fun j v σ => am_at GR k_Model_site c_Model_site m_Model_site X Q 20 j v σ) (⟨(am_v4_of (fun t x1 x2 x3 σ h => am_tk (fun e => by subst e; exact fun h => h) h)), trivial⟩)
set_option maxRecDepth 100000 in
theorem S_Model_site (l : Launch) (w : AW) : am_S l w GR a_Model_site := am_sound (rt := 0) (cal := k_Model_site) 210 y_Model_site prog_10_method_37_code 4 (Option.some Jvm.ClassFile.FieldType.int) [2, 0, 0, 0] false { frames := 3, cells := 0, slots := 0, locals := 93 } B_Model_site "LinkHouseModel" c_Model_site m_Model_site 20 ms_Model_site (by decide +kernel) rfl rfl (am_cal (S_Model_beginning l w) (fun _ h => absurd h List.not_mem_nil)) s_Model_site h_Model_site
set_option maxRecDepth 100000 in
theorem of_Model_site {Q : Int → AMem → Prop} {x1 x2 x3 : Int} {σ : AMem} (h : ∀ X : Nat → List Int → AMem → Prop, (∀ (x1 x2 x3 : Int) (σ : AMem), B_Model_site_0 X Q x1 x2 x3 σ → X 0 [9790, x1, x2, x3] σ) → X 0 [9790, x1, x2, x3] σ) : T_Model_site [9790, x1, x2, x3] σ Q := fun X hX => h X (fun x1 x2 x3 σ h => hX 0 [9790, x1, x2, x3] σ h)
set_option maxRecDepth 100000 in
theorem iff_Model_site {Q : Int → AMem → Prop} {X : Nat → List Int → AMem → Prop} {x1 x2 x3 : Int} {σ : AMem} : T_Model_site [9790, x1, x2, x3] σ Q ↔ B_Model_site_0 X Q x1 x2 x3 σ := ⟨fun h => h (fun j v σ => B_Model_site X Q j v σ) (fun _ _ _ q => q), fun h _ hX => hX 0 _ _ h⟩
def c_Model_isSlotted : List aE := [(0, 1, .lload_n 0, 1, 0, 0, []), (1, 0, .ldc2_w 389, 3, 9, 0, [9026]), (4, 0, .lcmp, 1, 0, 0, []), (5, 0, .ifCond .eq 27, 3, 0, 0, []), (8, 0, .lload_n 0, 1, 0, 0, []), (9, 0, .ldc2_w 391, 3, 22, 0, [9027]), (12, 0, .lcmp, 1, 0, 0, []), (13, 0, .ifCond .eq 19, 3, 0, 0, []), (16, 0, .lload_n 0, 1, 0, 0, []), (17, 0, .ldc2_w 393, 3, 41, 0, [9028]), (20, 0, .lcmp, 1, 0, 0, []), (21, 0, .ifCond .eq 11, 3, 0, 0, []), (24, 0, .lload_n 0, 1, 0, 0, []), (25, 0, .ldc2_w 395, 3, 42, 0, [9029]), (28, 0, .lcmp, 1, 0, 0, []), (29, 0, .ifCond .ne 7, 3, 0, 0, []), (32, 0, .iconst 1, 1, 0, 0, []), (33, 0, .goto 4, 3, 0, 0, []), (36, 0, .iconst 0, 1, 0, 0, []), (37, 0, .ireturn, 1, 1, 0, [])]
def m_Model_isSlotted : List aT := [(0, [(0, 1)], [])]
def B_Model_isSlotted_0 (X : Nat → List Int → AMem → Prop) (Q : Int → AMem → Prop) (x0 : Int) (σ : AMem) : Prop :=
  (if x0 = 9 then
  Q 1 σ
  else
  (if x0 = 22 then
    Q 1 σ
    else
    (if x0 = 41 then
      Q 1 σ
      else
      (if x0 = 42 then
        Q 1 σ
        else
        Q 0 σ))))
def B_Model_isSlotted : (Nat → List Int → AMem → Prop) → (Int → AMem → Prop) → Nat → List Int → AMem → Prop := fun X Q j v σ => am_sel [(am_v1 (fun x0 σ => B_Model_isSlotted_0 X Q x0 σ))] j v σ
def T_Model_isSlotted : List Int → AMem → (Int → AMem → Prop) → Prop := am_T B_Model_isSlotted
abbrev y_Model_isSlotted : MethodName := ⟨"LinkHouseModel", "isSlotted", "(J)Z"⟩
def a_Model_isSlotted : AC := (211, (y_Model_isSlotted, prog_10_method_33_code, 2, (Option.some Jvm.ClassFile.FieldType.boolean)), [1], 0, true, { frames := 0, cells := 0, slots := 0, locals := 0 }, T_Model_isSlotted)
set_option maxRecDepth 100000 in
theorem ms_Model_isSlotted : am_MSp a_Model_isSlotted := am_ms_s 9025 9 9024 rfl (by decide +kernel)
abbrev k_Model_isSlotted : List AC := []
set_option maxRecDepth 100000 in
theorem s_Model_isSlotted : (am_chkR { frames := 0, cells := 0, slots := 0, locals := 0 } k_Model_isSlotted && am_chkN c_Model_isSlotted { frames := 0, cells := 0, slots := 0, locals := 0 } && c_Model_isSlotted.all (am_chk "LinkHouseModel" prog_10_method_33_code 2 (Option.some Jvm.ClassFile.FieldType.boolean) k_Model_isSlotted) && c_Model_isSlotted.all (am_chkL m_Model_isSlotted) && decide (m_Model_isSlotted[0]? = some (0, am_argp 0 [1], [])) && decide (am_argn [1] ≤ 2)) = true := by decide +kernel
set_option maxHeartbeats 150000 in
set_option maxRecDepth 100000 in
theorem h_Model_isSlotted : ∀ X Q j v σ, B_Model_isSlotted X Q j v σ → am_at GR k_Model_isSlotted c_Model_isSlotted m_Model_isSlotted X Q 25 j v σ := fun X Q => am_sel_all (P := fun j v σ => am_at GR k_Model_isSlotted c_Model_isSlotted m_Model_isSlotted X Q 25 j v σ) (⟨(am_v1_of (fun x0 σ h => h)), trivial⟩)
set_option maxRecDepth 100000 in
theorem S_Model_isSlotted (l : Launch) (w : AW) : am_S l w GR a_Model_isSlotted := am_sound (rt := 0) (cal := k_Model_isSlotted) 211 y_Model_isSlotted prog_10_method_33_code 2 (Option.some Jvm.ClassFile.FieldType.boolean) [1] true { frames := 0, cells := 0, slots := 0, locals := 0 } B_Model_isSlotted "LinkHouseModel" c_Model_isSlotted m_Model_isSlotted 25 ms_Model_isSlotted (by decide +kernel) rfl rfl (fun _ h => absurd h List.not_mem_nil) s_Model_isSlotted h_Model_isSlotted
set_option maxRecDepth 100000 in
theorem of_Model_isSlotted {Q : Int → AMem → Prop} {x0 : Int} {σ : AMem} (h : ∀ X : Nat → List Int → AMem → Prop, (∀ (x0 : Int) (σ : AMem), B_Model_isSlotted_0 X Q x0 σ → X 0 [x0] σ) → X 0 [x0] σ) : T_Model_isSlotted [x0] σ Q := fun X hX => h X (fun x0 σ h => hX 0 [x0] σ h)
set_option maxRecDepth 100000 in
theorem iff_Model_isSlotted {Q : Int → AMem → Prop} {X : Nat → List Int → AMem → Prop} {x0 : Int} {σ : AMem} : T_Model_isSlotted [x0] σ Q ↔ B_Model_isSlotted_0 X Q x0 σ := ⟨fun h => h (fun j v σ => B_Model_isSlotted X Q j v σ) (fun _ _ _ q => q), fun h _ hX => hX 0 _ _ h⟩
def c_Model_width : List aE := [(0, 1, .lload_n 0, 1, 0, 0, []), (1, 0, .lconst 1, 1, 0, 0, []), (2, 0, .lcmp, 1, 0, 0, []), (3, 0, .ifCond .eq 11, 3, 0, 0, []), (6, 0, .lload_n 0, 1, 0, 0, []), (7, 0, .ldc2_w 397, 3, 18, 0, [9019]), (10, 0, .lcmp, 1, 0, 0, []), (11, 0, .ifCond .ne 8, 3, 0, 0, []), (14, 0, .bipush 8, 2, 0, 0, []), (16, 0, .goto 65, 3, 0, 0, []), (19, 0, .lload_n 0, 1, 0, 0, []), (20, 0, .ldc2_w 307, 3, 2, 0, [8172]), (23, 0, .lcmp, 1, 0, 0, []), (24, 0, .ifCond .eq 42, 3, 0, 0, []), (27, 0, .lload_n 0, 1, 0, 0, []), (28, 0, .ldc2_w 311, 3, 4, 0, [8239]), (31, 0, .lcmp, 1, 0, 0, []), (32, 0, .ifCond .eq 34, 3, 0, 0, []), (35, 0, .lload_n 0, 1, 0, 0, []), (36, 0, .ldc2_w 399, 3, 10, 0, [9020]), (39, 0, .lcmp, 1, 0, 0, []), (40, 0, .ifCond .eq 26, 3, 0, 0, []), (43, 0, .lload_n 0, 1, 0, 0, []), (44, 0, .ldc2_w 401, 3, 11, 0, [9021]), (47, 0, .lcmp, 1, 0, 0, []), (48, 0, .ifCond .eq 18, 3, 0, 0, []), (51, 0, .lload_n 0, 1, 0, 0, []), (52, 0, .ldc2_w 403, 3, 23, 0, [9022]), (55, 0, .lcmp, 1, 0, 0, []), (56, 0, .ifCond .eq 10, 3, 0, 0, []), (59, 0, .lload_n 0, 1, 0, 0, []), (60, 0, .invokestatic 405, 3, 211, 0, [9023]), (63, 0, .ifCond .eq 7, 3, 0, 0, []), (66, 0, .iconst 4, 1, 0, 0, []), (67, 0, .goto 14, 3, 0, 0, []), (70, 0, .lload_n 0, 1, 0, 0, []), (71, 0, .lconst 0, 1, 0, 0, []), (72, 0, .lcmp, 1, 0, 0, []), (73, 0, .ifCond .ne 7, 3, 0, 0, []), (76, 0, .iconst 0, 1, 0, 0, []), (77, 0, .goto 4, 3, 0, 0, []), (80, 0, .iconst (-1), 1, 0, 0, []), (81, 0, .ireturn, 1, 0, 0, [])]
def m_Model_width : List aT := [(0, [(0, 1)], [])]
def B_Model_width_0 (X : Nat → List Int → AMem → Prop) (Q : Int → AMem → Prop) (x0 : Int) (σ : AMem) : Prop :=
  (if x0 = 1 then
  Q 8 σ
  else
  (if x0 = 18 then
    Q 8 σ
    else
    (if x0 = 2 then
      Q 4 σ
      else
      (if x0 = 4 then
        Q 4 σ
        else
        (if x0 = 10 then
          Q 4 σ
          else
          (if x0 = 11 then
            Q 4 σ
            else
            (if x0 = 23 then
              Q 4 σ
              else
              T_Model_isSlotted [x0] σ (fun r1 σ2 => (if r1 = 0 then
                (if x0 = 0 then
                  Q 0 σ2
                  else
                  Q (-1) σ2)
                else
                Q 4 σ2)))))))))
def B_Model_width : (Nat → List Int → AMem → Prop) → (Int → AMem → Prop) → Nat → List Int → AMem → Prop := fun X Q j v σ => am_sel [(am_v1 (fun x0 σ => B_Model_width_0 X Q x0 σ))] j v σ
def T_Model_width : List Int → AMem → (Int → AMem → Prop) → Prop := am_T B_Model_width
abbrev y_Model_width : MethodName := ⟨"LinkHouseModel", "width", "(J)I"⟩
def a_Model_width : AC := (212, (y_Model_width, prog_10_method_34_code, 2, (Option.some Jvm.ClassFile.FieldType.int)), [1], 0, true, { frames := 1, cells := 0, slots := 0, locals := 29 }, T_Model_width)
set_option maxRecDepth 100000 in
theorem ms_Model_width : am_MSp a_Model_width := am_ms_s 9018 9 9017 rfl (by decide +kernel)
abbrev k_Model_width : List AC := [a_Model_isSlotted]
set_option maxRecDepth 100000 in
theorem s_Model_width : (am_chkR { frames := 1, cells := 0, slots := 0, locals := 29 } k_Model_width && am_chkN c_Model_width { frames := 1, cells := 0, slots := 0, locals := 29 } && c_Model_width.all (am_chk "LinkHouseModel" prog_10_method_34_code 2 (Option.some Jvm.ClassFile.FieldType.int) k_Model_width) && c_Model_width.all (am_chkL m_Model_width) && decide (m_Model_width[0]? = some (0, am_argp 0 [1], [])) && decide (am_argn [1] ≤ 2)) = true := by decide +kernel
set_option maxHeartbeats 150000 in
set_option maxRecDepth 100000 in
theorem h_Model_width : ∀ X Q j v σ, B_Model_width X Q j v σ → am_at GR k_Model_width c_Model_width m_Model_width X Q 48 j v σ := fun X Q => am_sel_all (P := fun j v σ => am_at GR k_Model_width c_Model_width m_Model_width X Q 48 j v σ) (⟨(am_v1_of (fun x0 σ h => h)), trivial⟩)
set_option maxRecDepth 100000 in
theorem S_Model_width (l : Launch) (w : AW) : am_S l w GR a_Model_width := am_sound (rt := 0) (cal := k_Model_width) 212 y_Model_width prog_10_method_34_code 2 (Option.some Jvm.ClassFile.FieldType.int) [1] true { frames := 1, cells := 0, slots := 0, locals := 29 } B_Model_width "LinkHouseModel" c_Model_width m_Model_width 48 ms_Model_width (by decide +kernel) rfl rfl (am_cal (S_Model_isSlotted l w) (fun _ h => absurd h List.not_mem_nil)) s_Model_width h_Model_width
set_option maxRecDepth 100000 in
theorem of_Model_width {Q : Int → AMem → Prop} {x0 : Int} {σ : AMem} (h : ∀ X : Nat → List Int → AMem → Prop, (∀ (x0 : Int) (σ : AMem), B_Model_width_0 X Q x0 σ → X 0 [x0] σ) → X 0 [x0] σ) : T_Model_width [x0] σ Q := fun X hX => h X (fun x0 σ h => hX 0 [x0] σ h)
set_option maxRecDepth 100000 in
theorem iff_Model_width {Q : Int → AMem → Prop} {X : Nat → List Int → AMem → Prop} {x0 : Int} {σ : AMem} : T_Model_width [x0] σ Q ↔ B_Model_width_0 X Q x0 σ := ⟨fun h => h (fun j v σ => B_Model_width X Q j v σ) (fun _ _ _ q => q), fun h _ hX => hX 0 _ _ h⟩
def c_Model_isSite : List aE := [(0, 1, .aload_n 0, 1, 0, 0, []), (1, 0, .iload_n 1, 1, 0, 0, []), (2, 0, .iload_n 2, 1, 0, 0, []), (3, 0, .iload_n 3, 1, 0, 0, []), (4, 0, .invokevirtual 411, 3, 210, 8, [9012]), (7, 0, .istore 4, 2, 0, 0, []), (9, 0, .aload_n 0, 1, 0, 0, []), (10, 0, .iload 4, 2, 0, 0, []), (12, 0, .bipush 8, 2, 0, 0, []), (14, 0, .iadd, 1, 0, 0, []), (15, 0, .iconst 4, 1, 0, 0, []), (16, 0, .invokevirtual 291, 3, 183, 8, [8120]), (19, 0, .invokestatic 415, 3, 212, 0, [9016]), (22, 0, .istore 5, 2, 0, 0, []), (24, 0, .aload_n 0, 1, 0, 0, []), (25, 0, .iload_n 1, 1, 0, 0, []), (26, 0, .iload_n 2, 1, 0, 0, []), (27, 0, .invokevirtual 408, 3, 207, 8, [9000]), (30, 0, .l2i, 1, 0, 0, []), (31, 0, .istore 6, 2, 0, 0, []), (33, 0, .iload 5, 2, 0, 0, []), (35, 0, .ifCond .lt 23, 3, 0, 0, []), (38, 0, .aload_n 0, 1, 0, 0, []), (39, 0, .iload 4, 2, 0, 0, []), (41, 0, .bipush 12, 2, 0, 0, []), (43, 0, .iadd, 1, 0, 0, []), (44, 0, .iconst 4, 1, 0, 0, []), (45, 0, .invokevirtual 291, 3, 183, 8, [8120]), (48, 0, .aload_n 0, 1, 0, 0, []), (49, 0, .iload_n 1, 1, 0, 0, []), (50, 0, .invokevirtual 366, 3, 198, 8, [8197]), (53, 0, .i2l, 1, 0, 0, []), (54, 0, .lcmp, 1, 0, 0, []), (55, 0, .ifCond .lt 5, 3, 0, 0, []), (58, 0, .iconst 0, 1, 0, 0, []), (59, 0, .ireturn, 1, 1, 0, []), (60, 0, .iload 5, 2, 0, 0, []), (62, 0, .ifCond .ne 5, 3, 0, 0, []), (65, 0, .iconst 1, 1, 0, 0, []), (66, 0, .ireturn, 1, 1, 0, []), (67, 0, .aload_n 0, 1, 0, 0, []), (68, 0, .iload_n 1, 1, 0, 0, []), (69, 0, .iload 6, 2, 0, 0, []), (71, 0, .invokevirtual 299, 3, 188, 8, [8143]), (74, 0, .ldc2_w 302, 3, 8, 0, [8155]), (77, 0, .lcmp, 1, 0, 0, []), (78, 0, .ifCond .eq 27, 3, 0, 0, []), (81, 0, .aload_n 0, 1, 0, 0, []), (82, 0, .iload 4, 2, 0, 0, []), (84, 0, .bipush 8, 2, 0, 0, []), (86, 0, .invokevirtual 291, 3, 183, 8, [8120]), (89, 0, .iload 5, 2, 0, 0, []), (91, 0, .i2l, 1, 0, 0, []), (92, 0, .aload_n 0, 1, 0, 0, []), (93, 0, .iload_n 1, 1, 0, 0, []), (94, 0, .iload 6, 2, 0, 0, []), (96, 0, .invokevirtual 320, 3, 190, 8, [8160]), (99, 0, .invokestatic 343, 3, 186, 0, [8140]), (102, 0, .ifCond .ne 5, 3, 0, 0, []), (105, 0, .iconst 0, 1, 0, 0, []), (106, 0, .ireturn, 1, 1, 0, []), (107, 0, .iconst 1, 1, 0, 0, []), (108, 0, .istore 7, 2, 0, 0, []), (110, 0, .iconst 1, 1, 0, 0, []), (111, 0, .istore 8, 2, 0, 0, []), (113, 2, .iload 8, 2, 0, 0, []), (115, 0, .iload_n 2, 1, 0, 0, []), (116, 0, .if_icmp .gt 158, 3, 0, 0, []), (119, 0, .aload_n 0, 1, 0, 0, []), (120, 0, .iload_n 1, 1, 0, 0, []), (121, 0, .iload 8, 2, 0, 0, []), (123, 0, .invokevirtual 419, 3, 208, 8, [8235]), (126, 0, .ifCond .eq 142, 3, 0, 0, []), (129, 0, .aload_n 0, 1, 0, 0, []), (130, 0, .iload_n 1, 1, 0, 0, []), (131, 0, .iload 8, 2, 0, 0, []), (133, 0, .invokevirtual 408, 3, 207, 8, [9000]), (136, 0, .iload 6, 2, 0, 0, []), (138, 0, .i2l, 1, 0, 0, []), (139, 0, .lcmp, 1, 0, 0, []), (140, 0, .ifCond .eq 6, 3, 0, 0, []), (143, 0, .goto 125, 3, 0, 0, []), (146, 0, .iconst 0, 1, 0, 0, []), (147, 0, .istore 9, 2, 0, 0, []), (149, 3, .iload 9, 2, 0, 0, []), (151, 0, .iload 8, 2, 0, 0, []), (153, 0, .iload_n 2, 1, 0, 0, []), (154, 0, .if_icmp .ge 13, 3, 0, 0, []), (157, 0, .aload_n 0, 1, 0, 0, []), (158, 0, .iload_n 1, 1, 0, 0, []), (159, 0, .iload 8, 2, 0, 0, []), (161, 0, .invokevirtual 422, 3, 209, 8, [9004]), (164, 0, .goto 4, 3, 0, 0, []), (167, 0, .iload_n 3, 1, 0, 0, []), (168, 4, .if_icmp .ge 100, 3, 0, 0, []), (171, 0, .aload_n 0, 1, 0, 0, []), (172, 0, .iload_n 1, 1, 0, 0, []), (173, 0, .iload 8, 2, 0, 0, []), (175, 0, .iload 9, 2, 0, 0, []), (177, 0, .invokevirtual 411, 3, 210, 8, [9012]), (180, 0, .istore 10, 2, 0, 0, []), (182, 0, .aload_n 0, 1, 0, 0, []), (183, 0, .iload 10, 2, 0, 0, []), (185, 0, .bipush 8, 2, 0, 0, []), (187, 0, .iadd, 1, 0, 0, []), (188, 0, .iconst 4, 1, 0, 0, []), (189, 0, .invokevirtual 291, 3, 183, 8, [8120]), (192, 0, .invokestatic 415, 3, 212, 0, [9016]), (195, 0, .istore 11, 2, 0, 0, []), (197, 0, .iload 7, 2, 0, 0, []), (199, 0, .ifCond .eq 60, 3, 0, 0, []), (202, 0, .iload 11, 2, 0, 0, []), (204, 0, .ifCond .eq 51, 3, 0, 0, []), (207, 0, .aload_n 0, 1, 0, 0, []), (208, 0, .iload 10, 2, 0, 0, []), (210, 0, .bipush 8, 2, 0, 0, []), (212, 0, .invokevirtual 291, 3, 183, 8, [8120]), (215, 0, .iload 11, 2, 0, 0, []), (217, 0, .i2l, 1, 0, 0, []), (218, 0, .ladd, 1, 0, 0, []), (219, 0, .aload_n 0, 1, 0, 0, []), (220, 0, .iload 4, 2, 0, 0, []), (222, 0, .bipush 8, 2, 0, 0, []), (224, 0, .invokevirtual 291, 3, 183, 8, [8120]), (227, 0, .lcmp, 1, 0, 0, []), (228, 0, .ifCond .le 27, 3, 0, 0, []), (231, 0, .aload_n 0, 1, 0, 0, []), (232, 0, .iload 4, 2, 0, 0, []), (234, 0, .bipush 8, 2, 0, 0, []), (236, 0, .invokevirtual 291, 3, 183, 8, [8120]), (239, 0, .iload 5, 2, 0, 0, []), (241, 0, .i2l, 1, 0, 0, []), (242, 0, .ladd, 1, 0, 0, []), (243, 0, .aload_n 0, 1, 0, 0, []), (244, 0, .iload 10, 2, 0, 0, []), (246, 0, .bipush 8, 2, 0, 0, []), (248, 0, .invokevirtual 291, 3, 183, 8, [8120]), (251, 0, .lcmp, 1, 0, 0, []), (252, 0, .ifCond .gt 7, 3, 0, 0, []), (255, 5, .iconst 1, 1, 0, 0, []), (256, 0, .goto 4, 3, 0, 0, []), (259, 6, .iconst 0, 1, 0, 0, []), (260, 7, .istore 7, 2, 0, 0, []), (262, 0, .iinc 9 1, 3, 0, 0, []), (265, 0, .goto (-116), 3, 0, 0, []), (268, 8, .iinc 8 1, 3, 0, 0, []), (271, 0, .goto (-158), 3, 0, 0, []), (274, 0, .iload 7, 2, 0, 0, []), (276, 0, .ireturn, 1, 1, 0, [])]
def m_Model_isSite : List aT := [(0, [(0, 2), (1, 0), (2, 0), (3, 0)], []), (113, [(0, 2), (1, 0), (2, 0), (3, 0), (4, 0), (5, 0), (6, 0), (7, 0), (8, 0)], []), (149, [(0, 2), (1, 0), (2, 0), (3, 0), (4, 0), (5, 0), (6, 0), (7, 0), (8, 0), (9, 0)], []), (168, [(0, 2), (1, 0), (2, 0), (3, 0), (4, 0), (5, 0), (6, 0), (7, 0), (8, 0), (9, 0)], [0, 0]), (255, [(0, 2), (1, 0), (2, 0), (3, 0), (4, 0), (5, 0), (6, 0), (8, 0), (9, 0)], []), (259, [(0, 2), (1, 0), (2, 0), (3, 0), (4, 0), (5, 0), (6, 0), (8, 0), (9, 0)], []), (260, [(0, 2), (1, 0), (2, 0), (3, 0), (4, 0), (5, 0), (6, 0), (8, 0), (9, 0)], [0]), (268, [(0, 2), (1, 0), (2, 0), (3, 0), (4, 0), (5, 0), (6, 0), (7, 0), (8, 0)], [])]
def B_Model_isSite_0 (X : Nat → List Int → AMem → Prop) (Q : Int → AMem → Prop) (x1 x2 x3 : Int) (σ : AMem) : Prop :=
  T_Model_site [9790, x1, x2, x3] σ (fun r1 σ2 => am_r32 (r1 + 8) ∧ T_Model_num [9790, (r1 + 8), 4] σ2 (fun r3 σ4 => T_Model_width [r3] σ4 (fun r5 σ6 => T_Model_info [9790, x1, x2] σ6 (fun r7 σ8 => (if r5 < 0 then
  Q 0 σ8
  else
  am_r32 (r1 + 12) ∧ T_Model_num [9790, (r1 + 12), 4] σ8 (fun r9 σ10 => T_Model_symbolMany [9790, x1] σ10 (fun r11 σ12 => (if r9 < r11 then
    (if r5 = 0 then
      Q 1 σ12
      else
      T_Model_type [9790, x1, (w32 r7)] σ12 (fun r13 σ14 => (if r13 = 8 then
        Q 0 σ14
        else
        T_Model_num [9790, r1, 8] σ14 (fun r15 σ16 => T_Model_size [9790, x1, (w32 r7)] σ16 (fun r17 σ18 => T_Model_lies [r15, r5, r17] σ18 (fun r19 σ20 => (if r19 = 0 then
          Q 0 σ20
          else
          X 1 [9790, x1, x2, x3, r1, r5, (w32 r7), 1, 1] σ20)))))))
    else
    Q 0 σ12))))))))
def B_Model_isSite_1 (X : Nat → List Int → AMem → Prop) (Q : Int → AMem → Prop) (x1 x2 x3 x4 x5 x6 x7 x8 : Int) (σ : AMem) : Prop :=
  (if x2 < x8 then
  (if x7 = 0 ∨ x7 = 1 then Q x7 σ else False)
  else
  T_Model_isSites [9790, x1, x8] σ (fun r1 σ2 => (if r1 = 0 then
    X 7 [9790, x1, x2, x3, x4, x5, x6, x7, x8] σ2
    else
    T_Model_info [9790, x1, x8] σ2 (fun r3 σ4 => (if r3 = x6 then
      X 2 [9790, x1, x2, x3, x4, x5, x6, x7, x8, 0] σ4
      else
      X 7 [9790, x1, x2, x3, x4, x5, x6, x7, x8] σ4)))))
def B_Model_isSite_2 (X : Nat → List Int → AMem → Prop) (Q : Int → AMem → Prop) (x1 x2 x3 x4 x5 x6 x7 x8 x9 : Int) (σ : AMem) : Prop :=
  (if x8 < x2 then
  T_Model_siteMany [9790, x1, x8] σ (fun r1 σ2 => X 3 [9790, x1, x2, x3, x4, x5, x6, x7, x8, x9, r1, x9] σ2)
  else
  X 3 [9790, x1, x2, x3, x4, x5, x6, x7, x8, x9, x3, x9] σ)
def B_Model_isSite_3 (X : Nat → List Int → AMem → Prop) (Q : Int → AMem → Prop) (x1 x2 x3 x4 x5 x6 x7 x8 x9 s0 s1 : Int) (σ : AMem) : Prop :=
  (if s1 < s0 then
  T_Model_site [9790, x1, x8, x9] σ (fun r1 σ2 => am_r32 (r1 + 8) ∧ T_Model_num [9790, (r1 + 8), 4] σ2 (fun r3 σ4 => T_Model_width [r3] σ4 (fun r5 σ6 => (if x7 = 0 then
    X 5 [9790, x1, x2, x3, x4, x5, x6, x8, x9] σ6
    else
    (if r5 = 0 then
      X 4 [9790, x1, x2, x3, x4, x5, x6, x8, x9] σ6
      else
      T_Model_num [9790, r1, 8] σ6 (fun r7 σ8 => T_Model_num [9790, x4, 8] σ8 (fun r9 σ10 => (if r9 < (w64 (r7 + r5)) then
        T_Model_num [9790, x4, 8] σ10 (fun r11 σ12 => T_Model_num [9790, r1, 8] σ12 (fun r13 σ14 => (if r13 < (w64 (r11 + x5)) then
          X 5 [9790, x1, x2, x3, x4, x5, x6, x8, x9] σ14
          else
          X 4 [9790, x1, x2, x3, x4, x5, x6, x8, x9] σ14)))
        else
        X 4 [9790, x1, x2, x3, x4, x5, x6, x8, x9] σ10))))))))
  else
  X 7 [9790, x1, x2, x3, x4, x5, x6, x7, x8] σ)
def B_Model_isSite_4 (X : Nat → List Int → AMem → Prop) (Q : Int → AMem → Prop) (x1 x2 x3 x4 x5 x6 x8 x9 : Int) (σ : AMem) : Prop :=
  X 6 [9790, x1, x2, x3, x4, x5, x6, x8, x9, 1] σ
def B_Model_isSite_5 (X : Nat → List Int → AMem → Prop) (Q : Int → AMem → Prop) (x1 x2 x3 x4 x5 x6 x8 x9 : Int) (σ : AMem) : Prop :=
  X 6 [9790, x1, x2, x3, x4, x5, x6, x8, x9, 0] σ
def B_Model_isSite_6 (X : Nat → List Int → AMem → Prop) (Q : Int → AMem → Prop) (x1 x2 x3 x4 x5 x6 x8 x9 s0 : Int) (σ : AMem) : Prop :=
  am_r32 (x9 + 1) ∧ X 2 [9790, x1, x2, x3, x4, x5, x6, s0, x8, (x9 + 1)] σ
def B_Model_isSite_7 (X : Nat → List Int → AMem → Prop) (Q : Int → AMem → Prop) (x1 x2 x3 x4 x5 x6 x7 x8 : Int) (σ : AMem) : Prop :=
  am_r32 (x8 + 1) ∧ X 1 [9790, x1, x2, x3, x4, x5, x6, x7, (x8 + 1)] σ
def B_Model_isSite : (Nat → List Int → AMem → Prop) → (Int → AMem → Prop) → Nat → List Int → AMem → Prop := fun X Q j v σ => am_sel [(am_v4 (fun t x1 x2 x3 σ => if t = 9790 then B_Model_isSite_0 X Q x1 x2 x3 σ else False)), (am_v9 (fun t x1 x2 x3 x4 x5 x6 x7 x8 σ => if t = 9790 then B_Model_isSite_1 X Q x1 x2 x3 x4 x5 x6 x7 x8 σ else False)), (am_v10 (fun t x1 x2 x3 x4 x5 x6 x7 x8 x9 σ => if t = 9790 then B_Model_isSite_2 X Q x1 x2 x3 x4 x5 x6 x7 x8 x9 σ else False)), (am_v12 (fun t x1 x2 x3 x4 x5 x6 x7 x8 x9 s0 s1 σ => if t = 9790 then B_Model_isSite_3 X Q x1 x2 x3 x4 x5 x6 x7 x8 x9 s0 s1 σ else False)), (am_v9 (fun t x1 x2 x3 x4 x5 x6 x8 x9 σ => if t = 9790 then B_Model_isSite_4 X Q x1 x2 x3 x4 x5 x6 x8 x9 σ else False)), (am_v9 (fun t x1 x2 x3 x4 x5 x6 x8 x9 σ => if t = 9790 then B_Model_isSite_5 X Q x1 x2 x3 x4 x5 x6 x8 x9 σ else False)), (am_v10 (fun t x1 x2 x3 x4 x5 x6 x8 x9 s0 σ => if t = 9790 then B_Model_isSite_6 X Q x1 x2 x3 x4 x5 x6 x8 x9 s0 σ else False)), (am_v9 (fun t x1 x2 x3 x4 x5 x6 x7 x8 σ => if t = 9790 then B_Model_isSite_7 X Q x1 x2 x3 x4 x5 x6 x7 x8 σ else False))] j v σ
def T_Model_isSite : List Int → AMem → (Int → AMem → Prop) → Prop := am_T B_Model_isSite
abbrev y_Model_isSite : MethodName := ⟨"LinkHouseModel", "isSite", "(III)Z"⟩
def a_Model_isSite : AC := (213, (y_Model_isSite, prog_10_method_38_code, 12, (Option.some Jvm.ClassFile.FieldType.boolean)), [2, 0, 0, 0], 0, false, { frames := 5, cells := 0, slots := 0, locals := 153 }, T_Model_isSite)
set_option maxRecDepth 100000 in
theorem ms_Model_isSite : am_MSp a_Model_isSite := am_ms_v 9011 9 9010 107008 8 rfl (by decide +kernel)
abbrev k_Model_isSite : List AC := [a_Model_site, a_Model_num, a_Model_width, a_Model_info, a_Model_symbolMany, a_Model_type, a_Model_size, a_Model_lies, a_Model_isSites, a_Model_siteMany]
set_option maxRecDepth 100000 in
theorem s_Model_isSite : (am_chkR { frames := 5, cells := 0, slots := 0, locals := 153 } k_Model_isSite && am_chkN c_Model_isSite { frames := 5, cells := 0, slots := 0, locals := 153 } && c_Model_isSite.all (am_chk "LinkHouseModel" prog_10_method_38_code 12 (Option.some Jvm.ClassFile.FieldType.boolean) k_Model_isSite) && c_Model_isSite.all (am_chkL m_Model_isSite) && decide (m_Model_isSite[0]? = some (0, am_argp 0 [2, 0, 0, 0], [])) && decide (am_argn [2, 0, 0, 0] ≤ 12)) = true := by decide +kernel
set_option maxHeartbeats 150000 in
set_option maxRecDepth 100000 in
theorem h_Model_isSite : ∀ X Q j v σ, B_Model_isSite X Q j v σ → am_at GR k_Model_isSite c_Model_isSite m_Model_isSite X Q 154 j v σ := fun X Q => am_sel_all (P := fun j v σ => am_at GR k_Model_isSite c_Model_isSite m_Model_isSite X Q 154 j v σ) (⟨(am_v4_of (fun t x1 x2 x3 σ h => am_tk (fun e => by subst e; exact fun h => h) h)), ⟨(am_v9_of (fun t x1 x2 x3 x4 x5 x6 x7 x8 σ h => am_tk (fun e => by subst e; exact fun h => h) h)), ⟨(am_v10_of (fun t x1 x2 x3 x4 x5 x6 x7 x8 x9 σ h => am_tk (fun e => by subst e; exact fun h => h) h)), ⟨(am_v12_of (fun t x1 x2 x3 x4 x5 x6 x7 x8 x9 s0 s1 σ h => am_tk (fun e => by subst e; exact fun h => h) h)), ⟨(am_v9_of (fun t x1 x2 x3 x4 x5 x6 x8 x9 σ h => am_tk (fun e => by subst e; exact fun h => h) h)), ⟨(am_v9_of (fun t x1 x2 x3 x4 x5 x6 x8 x9 σ h => am_tk (fun e => by subst e; exact fun h => h) h)), ⟨(am_v10_of (fun t x1 x2 x3 x4 x5 x6 x8 x9 s0 σ h => am_tk (fun e => by subst e; exact fun h => h) h)), ⟨(am_v9_of (fun t x1 x2 x3 x4 x5 x6 x7 x8 σ h => am_tk (fun e => by subst e; exact fun h => h) h)), trivial⟩⟩⟩⟩⟩⟩⟩⟩)
set_option maxRecDepth 100000 in
theorem S_Model_isSite (l : Launch) (w : AW) : am_S l w GR a_Model_isSite := am_sound (rt := 0) (cal := k_Model_isSite) 213 y_Model_isSite prog_10_method_38_code 12 (Option.some Jvm.ClassFile.FieldType.boolean) [2, 0, 0, 0] false { frames := 5, cells := 0, slots := 0, locals := 153 } B_Model_isSite "LinkHouseModel" c_Model_isSite m_Model_isSite 154 ms_Model_isSite (by decide +kernel) rfl rfl (am_cal (S_Model_site l w) (am_cal (S_Model_num l w) (am_cal (S_Model_width l w) (am_cal (S_Model_info l w) (am_cal (S_Model_symbolMany l w) (am_cal (S_Model_type l w) (am_cal (S_Model_size l w) (am_cal (S_Model_lies l w) (am_cal (S_Model_isSites l w) (am_cal (S_Model_siteMany l w) (fun _ h => absurd h List.not_mem_nil))))))))))) s_Model_isSite h_Model_isSite
set_option maxRecDepth 100000 in
theorem of_Model_isSite {Q : Int → AMem → Prop} {x1 x2 x3 : Int} {σ : AMem} (h : ∀ X : Nat → List Int → AMem → Prop, (∀ (x1 x2 x3 : Int) (σ : AMem), B_Model_isSite_0 X Q x1 x2 x3 σ → X 0 [9790, x1, x2, x3] σ) → (∀ (x1 x2 x3 x4 x5 x6 x7 x8 : Int) (σ : AMem), B_Model_isSite_1 X Q x1 x2 x3 x4 x5 x6 x7 x8 σ → X 1 [9790, x1, x2, x3, x4, x5, x6, x7, x8] σ) → (∀ (x1 x2 x3 x4 x5 x6 x7 x8 x9 : Int) (σ : AMem), B_Model_isSite_2 X Q x1 x2 x3 x4 x5 x6 x7 x8 x9 σ → X 2 [9790, x1, x2, x3, x4, x5, x6, x7, x8, x9] σ) → (∀ (x1 x2 x3 x4 x5 x6 x7 x8 x9 s0 s1 : Int) (σ : AMem), B_Model_isSite_3 X Q x1 x2 x3 x4 x5 x6 x7 x8 x9 s0 s1 σ → X 3 [9790, x1, x2, x3, x4, x5, x6, x7, x8, x9, s0, s1] σ) → (∀ (x1 x2 x3 x4 x5 x6 x8 x9 : Int) (σ : AMem), B_Model_isSite_4 X Q x1 x2 x3 x4 x5 x6 x8 x9 σ → X 4 [9790, x1, x2, x3, x4, x5, x6, x8, x9] σ) → (∀ (x1 x2 x3 x4 x5 x6 x8 x9 : Int) (σ : AMem), B_Model_isSite_5 X Q x1 x2 x3 x4 x5 x6 x8 x9 σ → X 5 [9790, x1, x2, x3, x4, x5, x6, x8, x9] σ) → (∀ (x1 x2 x3 x4 x5 x6 x8 x9 s0 : Int) (σ : AMem), B_Model_isSite_6 X Q x1 x2 x3 x4 x5 x6 x8 x9 s0 σ → X 6 [9790, x1, x2, x3, x4, x5, x6, x8, x9, s0] σ) → (∀ (x1 x2 x3 x4 x5 x6 x7 x8 : Int) (σ : AMem), B_Model_isSite_7 X Q x1 x2 x3 x4 x5 x6 x7 x8 σ → X 7 [9790, x1, x2, x3, x4, x5, x6, x7, x8] σ) → X 0 [9790, x1, x2, x3] σ) : T_Model_isSite [9790, x1, x2, x3] σ Q := fun X hX => h X (fun x1 x2 x3 σ h => hX 0 [9790, x1, x2, x3] σ h) (fun x1 x2 x3 x4 x5 x6 x7 x8 σ h => hX 1 [9790, x1, x2, x3, x4, x5, x6, x7, x8] σ h) (fun x1 x2 x3 x4 x5 x6 x7 x8 x9 σ h => hX 2 [9790, x1, x2, x3, x4, x5, x6, x7, x8, x9] σ h) (fun x1 x2 x3 x4 x5 x6 x7 x8 x9 s0 s1 σ h => hX 3 [9790, x1, x2, x3, x4, x5, x6, x7, x8, x9, s0, s1] σ h) (fun x1 x2 x3 x4 x5 x6 x8 x9 σ h => hX 4 [9790, x1, x2, x3, x4, x5, x6, x8, x9] σ h) (fun x1 x2 x3 x4 x5 x6 x8 x9 σ h => hX 5 [9790, x1, x2, x3, x4, x5, x6, x8, x9] σ h) (fun x1 x2 x3 x4 x5 x6 x8 x9 s0 σ h => hX 6 [9790, x1, x2, x3, x4, x5, x6, x8, x9, s0] σ h) (fun x1 x2 x3 x4 x5 x6 x7 x8 σ h => hX 7 [9790, x1, x2, x3, x4, x5, x6, x7, x8] σ h)
def c_Model_sitesError : List aE := [(0, 1, .iconst 1, 1, 0, 0, []), (1, 0, .istore_n 2, 1, 0, 0, []), (2, 2, .iload_n 2, 1, 0, 0, []), (3, 0, .aload_n 0, 1, 0, 0, []), (4, 0, .iload_n 1, 1, 0, 0, []), (5, 0, .invokevirtual 313, 3, 185, 8, [8136]), (8, 0, .if_icmp .ge 94, 3, 0, 0, []), (11, 0, .aload_n 0, 1, 0, 0, []), (12, 0, .iload_n 1, 1, 0, 0, []), (13, 0, .iload_n 2, 1, 0, 0, []), (14, 0, .invokevirtual 419, 3, 208, 8, [8235]), (17, 0, .ifCond .ne 6, 3, 0, 0, []), (20, 0, .goto 76, 3, 0, 0, []), (23, 0, .aload_n 0, 1, 0, 0, []), (24, 0, .iload_n 1, 1, 0, 0, []), (25, 0, .iload_n 2, 1, 0, 0, []), (26, 0, .invokevirtual 320, 3, 190, 8, [8160]), (29, 0, .ldc2_w 360, 3, 24, 0, [8190]), (32, 0, .lrem, 1, 0, 0, []), (33, 0, .lconst 0, 1, 0, 0, []), (34, 0, .lcmp, 1, 0, 0, []), (35, 0, .ifCond .ne 27, 3, 0, 0, []), (38, 0, .aload_n 0, 1, 0, 0, []), (39, 0, .iload_n 1, 1, 0, 0, []), (40, 0, .invokevirtual 317, 3, 196, 8, [8186]), (43, 0, .ifCond .eq 19, 3, 0, 0, []), (46, 0, .aload_n 0, 1, 0, 0, []), (47, 0, .iload_n 1, 1, 0, 0, []), (48, 0, .iload_n 2, 1, 0, 0, []), (49, 0, .invokevirtual 329, 3, 197, 8, [8192]), (52, 0, .aload_n 0, 1, 0, 0, []), (53, 0, .iload_n 1, 1, 0, 0, []), (54, 0, .invokevirtual 317, 3, 196, 8, [8186]), (57, 0, .i2l, 1, 0, 0, []), (58, 0, .lcmp, 1, 0, 0, []), (59, 0, .ifCond .eq 6, 3, 0, 0, []), (62, 0, .bipush 7, 2, 0, 0, []), (64, 0, .ireturn, 1, 0, 0, []), (65, 0, .iconst 0, 1, 0, 0, []), (66, 0, .istore_n 3, 1, 0, 0, []), (67, 3, .iload_n 3, 1, 0, 0, []), (68, 0, .aload_n 0, 1, 0, 0, []), (69, 0, .iload_n 1, 1, 0, 0, []), (70, 0, .iload_n 2, 1, 0, 0, []), (71, 0, .invokevirtual 422, 3, 209, 8, [9004]), (74, 0, .if_icmp .ge 22, 3, 0, 0, []), (77, 0, .aload_n 0, 1, 0, 0, []), (78, 0, .iload_n 1, 1, 0, 0, []), (79, 0, .iload_n 2, 1, 0, 0, []), (80, 0, .iload_n 3, 1, 0, 0, []), (81, 0, .invokevirtual 425, 3, 213, 8, [9008]), (84, 0, .ifCond .ne 6, 3, 0, 0, []), (87, 0, .bipush 7, 2, 0, 0, []), (89, 0, .ireturn, 1, 0, 0, []), (90, 0, .iinc 3 1, 3, 0, 0, []), (93, 0, .goto (-26), 3, 0, 0, []), (96, 4, .iinc 2 1, 3, 0, 0, []), (99, 0, .goto (-97), 3, 0, 0, []), (102, 0, .iconst 0, 1, 0, 0, []), (103, 0, .ireturn, 1, 0, 0, [])]
def m_Model_sitesError : List aT := [(0, [(0, 2), (1, 0)], []), (2, [(0, 2), (1, 0), (2, 0)], []), (67, [(0, 2), (1, 0), (2, 0), (3, 0)], []), (96, [(0, 2), (1, 0), (2, 0)], [])]
def B_Model_sitesError_0 (X : Nat → List Int → AMem → Prop) (Q : Int → AMem → Prop) (x1 : Int) (σ : AMem) : Prop :=
  X 1 [9790, x1, 1] σ
def B_Model_sitesError_1 (X : Nat → List Int → AMem → Prop) (Q : Int → AMem → Prop) (x1 x2 : Int) (σ : AMem) : Prop :=
  T_Model_sections [9790, x1] σ (fun r1 σ2 => (if x2 < r1 then
  T_Model_isSites [9790, x1, x2] σ2 (fun r3 σ4 => (if r3 = 0 then
    X 3 [9790, x1, x2] σ4
    else
    T_Model_size [9790, x1, x2] σ4 (fun r5 σ6 => (0 : Int) < 24 ∧ (if (r5.tmod 24) = 0 then
      T_Model_symbols [9790, x1] σ6 (fun r7 σ8 => (if r7 = 0 then
        Q 7 σ8
        else
        T_Model_linkOf [9790, x1, x2] σ8 (fun r9 σ10 => T_Model_symbols [9790, x1] σ10 (fun r11 σ12 => (if r9 = r11 then
          X 2 [9790, x1, x2, 0] σ12
          else
          Q 7 σ12)))))
      else
      Q 7 σ6))))
  else
  Q 0 σ2))
def B_Model_sitesError_2 (X : Nat → List Int → AMem → Prop) (Q : Int → AMem → Prop) (x1 x2 x3 : Int) (σ : AMem) : Prop :=
  T_Model_siteMany [9790, x1, x2] σ (fun r1 σ2 => (if x3 < r1 then
  T_Model_isSite [9790, x1, x2, x3] σ2 (fun r3 σ4 => (if r3 = 0 then
    Q 7 σ4
    else
    am_r32 (x3 + 1) ∧ X 2 [9790, x1, x2, (x3 + 1)] σ4))
  else
  X 3 [9790, x1, x2] σ2))
def B_Model_sitesError_3 (X : Nat → List Int → AMem → Prop) (Q : Int → AMem → Prop) (x1 x2 : Int) (σ : AMem) : Prop :=
  am_r32 (x2 + 1) ∧ X 1 [9790, x1, (x2 + 1)] σ
def B_Model_sitesError : (Nat → List Int → AMem → Prop) → (Int → AMem → Prop) → Nat → List Int → AMem → Prop := fun X Q j v σ => am_sel [(am_v2 (fun t x1 σ => if t = 9790 then B_Model_sitesError_0 X Q x1 σ else False)), (am_v3 (fun t x1 x2 σ => if t = 9790 then B_Model_sitesError_1 X Q x1 x2 σ else False)), (am_v4 (fun t x1 x2 x3 σ => if t = 9790 then B_Model_sitesError_2 X Q x1 x2 x3 σ else False)), (am_v3 (fun t x1 x2 σ => if t = 9790 then B_Model_sitesError_3 X Q x1 x2 σ else False))] j v σ
def T_Model_sitesError : List Int → AMem → (Int → AMem → Prop) → Prop := am_T B_Model_sitesError
abbrev y_Model_sitesError : MethodName := ⟨"LinkHouseModel", "sitesError", "(I)I"⟩
def a_Model_sitesError : AC := (214, (y_Model_sitesError, prog_10_method_39_code, 4, (Option.some Jvm.ClassFile.FieldType.int)), [2, 0], 0, false, { frames := 6, cells := 0, slots := 0, locals := 192 }, T_Model_sitesError)
set_option maxRecDepth 100000 in
theorem ms_Model_sitesError : am_MSp a_Model_sitesError := am_ms_v 8234 9 8233 107004 8 rfl (by decide +kernel)
abbrev k_Model_sitesError : List AC := [a_Model_sections, a_Model_isSites, a_Model_size, a_Model_symbols, a_Model_linkOf, a_Model_siteMany, a_Model_isSite]
set_option maxRecDepth 100000 in
theorem s_Model_sitesError : (am_chkR { frames := 6, cells := 0, slots := 0, locals := 192 } k_Model_sitesError && am_chkN c_Model_sitesError { frames := 6, cells := 0, slots := 0, locals := 192 } && c_Model_sitesError.all (am_chk "LinkHouseModel" prog_10_method_39_code 4 (Option.some Jvm.ClassFile.FieldType.int) k_Model_sitesError) && c_Model_sitesError.all (am_chkL m_Model_sitesError) && decide (m_Model_sitesError[0]? = some (0, am_argp 0 [2, 0], [])) && decide (am_argn [2, 0] ≤ 4)) = true := by decide +kernel
set_option maxHeartbeats 150000 in
set_option maxRecDepth 100000 in
theorem h_Model_sitesError : ∀ X Q j v σ, B_Model_sitesError X Q j v σ → am_at GR k_Model_sitesError c_Model_sitesError m_Model_sitesError X Q 65 j v σ := fun X Q => am_sel_all (P := fun j v σ => am_at GR k_Model_sitesError c_Model_sitesError m_Model_sitesError X Q 65 j v σ) (⟨(am_v2_of (fun t x1 σ h => am_tk (fun e => by subst e; exact fun h => h) h)), ⟨(am_v3_of (fun t x1 x2 σ h => am_tk (fun e => by subst e; exact fun h => h) h)), ⟨(am_v4_of (fun t x1 x2 x3 σ h => am_tk (fun e => by subst e; exact fun h => h) h)), ⟨(am_v3_of (fun t x1 x2 σ h => am_tk (fun e => by subst e; exact fun h => h) h)), trivial⟩⟩⟩⟩)
set_option maxRecDepth 100000 in
theorem S_Model_sitesError (l : Launch) (w : AW) : am_S l w GR a_Model_sitesError := am_sound (rt := 0) (cal := k_Model_sitesError) 214 y_Model_sitesError prog_10_method_39_code 4 (Option.some Jvm.ClassFile.FieldType.int) [2, 0] false { frames := 6, cells := 0, slots := 0, locals := 192 } B_Model_sitesError "LinkHouseModel" c_Model_sitesError m_Model_sitesError 65 ms_Model_sitesError (by decide +kernel) rfl rfl (am_cal (S_Model_sections l w) (am_cal (S_Model_isSites l w) (am_cal (S_Model_size l w) (am_cal (S_Model_symbols l w) (am_cal (S_Model_linkOf l w) (am_cal (S_Model_siteMany l w) (am_cal (S_Model_isSite l w) (fun _ h => absurd h List.not_mem_nil)))))))) s_Model_sitesError h_Model_sitesError
set_option maxRecDepth 100000 in
theorem of_Model_sitesError {Q : Int → AMem → Prop} {x1 : Int} {σ : AMem} (h : ∀ X : Nat → List Int → AMem → Prop, (∀ (x1 : Int) (σ : AMem), B_Model_sitesError_0 X Q x1 σ → X 0 [9790, x1] σ) → (∀ (x1 x2 : Int) (σ : AMem), B_Model_sitesError_1 X Q x1 x2 σ → X 1 [9790, x1, x2] σ) → (∀ (x1 x2 x3 : Int) (σ : AMem), B_Model_sitesError_2 X Q x1 x2 x3 σ → X 2 [9790, x1, x2, x3] σ) → (∀ (x1 x2 : Int) (σ : AMem), B_Model_sitesError_3 X Q x1 x2 σ → X 3 [9790, x1, x2] σ) → X 0 [9790, x1] σ) : T_Model_sitesError [9790, x1] σ Q := fun X hX => h X (fun x1 σ h => hX 0 [9790, x1] σ h) (fun x1 x2 σ h => hX 1 [9790, x1, x2] σ h) (fun x1 x2 x3 σ h => hX 2 [9790, x1, x2, x3] σ h) (fun x1 x2 σ h => hX 3 [9790, x1, x2] σ h)
def c_Model_isGroup : List aE := [(0, 1, .aload_n 0, 1, 0, 0, []), (1, 0, .iload_n 1, 1, 0, 0, []), (2, 0, .iload_n 2, 1, 0, 0, []), (3, 0, .invokevirtual 299, 3, 188, 8, [8143]), (6, 0, .ldc2_w 429, 3, 17, 0, [9038]), (9, 0, .lcmp, 1, 0, 0, []), (10, 0, .ifCond .ne 7, 3, 0, 0, []), (13, 0, .iconst 1, 1, 0, 0, []), (14, 0, .goto 4, 3, 0, 0, []), (17, 0, .iconst 0, 1, 0, 0, []), (18, 0, .ireturn, 1, 1, 0, [])]
def m_Model_isGroup : List aT := [(0, [(0, 2), (1, 0), (2, 0)], [])]
def B_Model_isGroup_0 (X : Nat → List Int → AMem → Prop) (Q : Int → AMem → Prop) (x1 x2 : Int) (σ : AMem) : Prop :=
  T_Model_type [9790, x1, x2] σ (fun r1 σ2 => (if r1 = 17 then
  Q 1 σ2
  else
  Q 0 σ2))
def B_Model_isGroup : (Nat → List Int → AMem → Prop) → (Int → AMem → Prop) → Nat → List Int → AMem → Prop := fun X Q j v σ => am_sel [(am_v3 (fun t x1 x2 σ => if t = 9790 then B_Model_isGroup_0 X Q x1 x2 σ else False))] j v σ
def T_Model_isGroup : List Int → AMem → (Int → AMem → Prop) → Prop := am_T B_Model_isGroup
abbrev y_Model_isGroup : MethodName := ⟨"LinkHouseModel", "isGroup", "(II)Z"⟩
def a_Model_isGroup : AC := (215, (y_Model_isGroup, prog_10_method_40_code, 3, (Option.some Jvm.ClassFile.FieldType.boolean)), [2, 0, 0], 0, false, { frames := 3, cells := 0, slots := 0, locals := 93 }, T_Model_isGroup)
set_option maxRecDepth 100000 in
theorem ms_Model_isGroup : am_MSp a_Model_isGroup := am_ms_v 9037 9 9036 107011 8 rfl (by decide +kernel)
abbrev k_Model_isGroup : List AC := [a_Model_type]
set_option maxRecDepth 100000 in
theorem s_Model_isGroup : (am_chkR { frames := 3, cells := 0, slots := 0, locals := 93 } k_Model_isGroup && am_chkN c_Model_isGroup { frames := 3, cells := 0, slots := 0, locals := 93 } && c_Model_isGroup.all (am_chk "LinkHouseModel" prog_10_method_40_code 3 (Option.some Jvm.ClassFile.FieldType.boolean) k_Model_isGroup) && c_Model_isGroup.all (am_chkL m_Model_isGroup) && decide (m_Model_isGroup[0]? = some (0, am_argp 0 [2, 0, 0], [])) && decide (am_argn [2, 0, 0] ≤ 3)) = true := by decide +kernel
set_option maxHeartbeats 150000 in
set_option maxRecDepth 100000 in
theorem h_Model_isGroup : ∀ X Q j v σ, B_Model_isGroup X Q j v σ → am_at GR k_Model_isGroup c_Model_isGroup m_Model_isGroup X Q 20 j v σ := fun X Q => am_sel_all (P := fun j v σ => am_at GR k_Model_isGroup c_Model_isGroup m_Model_isGroup X Q 20 j v σ) (⟨(am_v3_of (fun t x1 x2 σ h => am_tk (fun e => by subst e; exact fun h => h) h)), trivial⟩)
set_option maxRecDepth 100000 in
theorem S_Model_isGroup (l : Launch) (w : AW) : am_S l w GR a_Model_isGroup := am_sound (rt := 0) (cal := k_Model_isGroup) 215 y_Model_isGroup prog_10_method_40_code 3 (Option.some Jvm.ClassFile.FieldType.boolean) [2, 0, 0] false { frames := 3, cells := 0, slots := 0, locals := 93 } B_Model_isGroup "LinkHouseModel" c_Model_isGroup m_Model_isGroup 20 ms_Model_isGroup (by decide +kernel) rfl rfl (am_cal (S_Model_type l w) (fun _ h => absurd h List.not_mem_nil)) s_Model_isGroup h_Model_isGroup
set_option maxRecDepth 100000 in
theorem of_Model_isGroup {Q : Int → AMem → Prop} {x1 x2 : Int} {σ : AMem} (h : ∀ X : Nat → List Int → AMem → Prop, (∀ (x1 x2 : Int) (σ : AMem), B_Model_isGroup_0 X Q x1 x2 σ → X 0 [9790, x1, x2] σ) → X 0 [9790, x1, x2] σ) : T_Model_isGroup [9790, x1, x2] σ Q := fun X hX => h X (fun x1 x2 σ h => hX 0 [9790, x1, x2] σ h)
set_option maxRecDepth 100000 in
theorem iff_Model_isGroup {Q : Int → AMem → Prop} {X : Nat → List Int → AMem → Prop} {x1 x2 : Int} {σ : AMem} : T_Model_isGroup [9790, x1, x2] σ Q ↔ B_Model_isGroup_0 X Q x1 x2 σ := ⟨fun h => h (fun j v σ => B_Model_isGroup X Q j v σ) (fun _ _ _ q => q), fun h _ hX => hX 0 _ _ h⟩
def c_Model_groupNumber : List aE := [(0, 1, .aload_n 0, 1, 0, 0, []), (1, 0, .iload_n 1, 1, 0, 0, []), (2, 0, .aload_n 0, 1, 0, 0, []), (3, 0, .iload_n 1, 1, 0, 0, []), (4, 0, .iload_n 2, 1, 0, 0, []), (5, 0, .invokevirtual 323, 3, 189, 8, [8156]), (8, 0, .l2i, 1, 0, 0, []), (9, 0, .iadd, 1, 0, 0, []), (10, 0, .iconst 4, 1, 0, 0, []), (11, 0, .iload_n 3, 1, 0, 0, []), (12, 0, .imul, 1, 0, 0, []), (13, 0, .iadd, 1, 0, 0, []), (14, 0, .iconst 4, 1, 0, 0, []), (15, 0, .invokevirtual 291, 3, 183, 8, [8120]), (18, 0, .lreturn, 1, 0, 0, [])]
def m_Model_groupNumber : List aT := [(0, [(0, 2), (1, 0), (2, 0), (3, 0)], [])]
def B_Model_groupNumber_0 (X : Nat → List Int → AMem → Prop) (Q : Int → AMem → Prop) (x1 x2 x3 : Int) (σ : AMem) : Prop :=
  T_Model_beginning [9790, x1, x2] σ (fun r1 σ2 => am_r32 (x1 + (w32 r1)) ∧ am_r32 (4 * x3) ∧ am_r32 ((x1 + (w32 r1)) + (4 * x3)) ∧ T_Model_num [9790, ((x1 + (w32 r1)) + (4 * x3)), 4] σ2 (fun r3 σ4 => Q r3 σ4))
def B_Model_groupNumber : (Nat → List Int → AMem → Prop) → (Int → AMem → Prop) → Nat → List Int → AMem → Prop := fun X Q j v σ => am_sel [(am_v4 (fun t x1 x2 x3 σ => if t = 9790 then B_Model_groupNumber_0 X Q x1 x2 x3 σ else False))] j v σ
def T_Model_groupNumber : List Int → AMem → (Int → AMem → Prop) → Prop := am_T B_Model_groupNumber
abbrev y_Model_groupNumber : MethodName := ⟨"LinkHouseModel", "groupNumber", "(III)J"⟩
def a_Model_groupNumber : AC := (216, (y_Model_groupNumber, prog_10_method_41_code, 4, (Option.some Jvm.ClassFile.FieldType.long)), [2, 0, 0, 0], 1, false, { frames := 3, cells := 0, slots := 0, locals := 93 }, T_Model_groupNumber)
set_option maxRecDepth 100000 in
theorem ms_Model_groupNumber : am_MSp a_Model_groupNumber := am_ms_v 9046 9 9045 107013 8 rfl (by decide +kernel)
abbrev k_Model_groupNumber : List AC := [a_Model_beginning, a_Model_num]
set_option maxRecDepth 100000 in
theorem s_Model_groupNumber : (am_chkR { frames := 3, cells := 0, slots := 0, locals := 93 } k_Model_groupNumber && am_chkN c_Model_groupNumber { frames := 3, cells := 0, slots := 0, locals := 93 } && c_Model_groupNumber.all (am_chk "LinkHouseModel" prog_10_method_41_code 4 (Option.some Jvm.ClassFile.FieldType.long) k_Model_groupNumber) && c_Model_groupNumber.all (am_chkL m_Model_groupNumber) && decide (m_Model_groupNumber[0]? = some (0, am_argp 0 [2, 0, 0, 0], [])) && decide (am_argn [2, 0, 0, 0] ≤ 4)) = true := by decide +kernel
set_option maxHeartbeats 150000 in
set_option maxRecDepth 100000 in
theorem h_Model_groupNumber : ∀ X Q j v σ, B_Model_groupNumber X Q j v σ → am_at GR k_Model_groupNumber c_Model_groupNumber m_Model_groupNumber X Q 20 j v σ := fun X Q => am_sel_all (P := fun j v σ => am_at GR k_Model_groupNumber c_Model_groupNumber m_Model_groupNumber X Q 20 j v σ) (⟨(am_v4_of (fun t x1 x2 x3 σ h => am_tk (fun e => by subst e; exact fun h => h) h)), trivial⟩)
set_option maxRecDepth 100000 in
theorem S_Model_groupNumber (l : Launch) (w : AW) : am_S l w GR a_Model_groupNumber := am_sound (rt := 1) (cal := k_Model_groupNumber) 216 y_Model_groupNumber prog_10_method_41_code 4 (Option.some Jvm.ClassFile.FieldType.long) [2, 0, 0, 0] false { frames := 3, cells := 0, slots := 0, locals := 93 } B_Model_groupNumber "LinkHouseModel" c_Model_groupNumber m_Model_groupNumber 20 ms_Model_groupNumber (by decide +kernel) rfl rfl (am_cal (S_Model_beginning l w) (am_cal (S_Model_num l w) (fun _ h => absurd h List.not_mem_nil))) s_Model_groupNumber h_Model_groupNumber
set_option maxRecDepth 100000 in
theorem of_Model_groupNumber {Q : Int → AMem → Prop} {x1 x2 x3 : Int} {σ : AMem} (h : ∀ X : Nat → List Int → AMem → Prop, (∀ (x1 x2 x3 : Int) (σ : AMem), B_Model_groupNumber_0 X Q x1 x2 x3 σ → X 0 [9790, x1, x2, x3] σ) → X 0 [9790, x1, x2, x3] σ) : T_Model_groupNumber [9790, x1, x2, x3] σ Q := fun X hX => h X (fun x1 x2 x3 σ h => hX 0 [9790, x1, x2, x3] σ h)
set_option maxRecDepth 100000 in
theorem iff_Model_groupNumber {Q : Int → AMem → Prop} {X : Nat → List Int → AMem → Prop} {x1 x2 x3 : Int} {σ : AMem} : T_Model_groupNumber [9790, x1, x2, x3] σ Q ↔ B_Model_groupNumber_0 X Q x1 x2 x3 σ := ⟨fun h => h (fun j v σ => B_Model_groupNumber X Q j v σ) (fun _ _ _ q => q), fun h _ hX => hX 0 _ _ h⟩
def c_Model_isGroupRight : List aE := [(0, 1, .aload_n 0, 1, 0, 0, []), (1, 0, .iload_n 1, 1, 0, 0, []), (2, 0, .iload_n 2, 1, 0, 0, []), (3, 0, .invokevirtual 320, 3, 190, 8, [8160]), (6, 0, .lconst 0, 1, 0, 0, []), (7, 0, .lcmp, 1, 0, 0, []), (8, 0, .ifCond .le 73, 3, 0, 0, []), (11, 0, .aload_n 0, 1, 0, 0, []), (12, 0, .iload_n 1, 1, 0, 0, []), (13, 0, .iload_n 2, 1, 0, 0, []), (14, 0, .invokevirtual 320, 3, 190, 8, [8160]), (17, 0, .ldc2_w 311, 3, 4, 0, [8239]), (20, 0, .lrem, 1, 0, 0, []), (21, 0, .lconst 0, 1, 0, 0, []), (22, 0, .lcmp, 1, 0, 0, []), (23, 0, .ifCond .ne 58, 3, 0, 0, []), (26, 0, .aload_n 0, 1, 0, 0, []), (27, 0, .iload_n 1, 1, 0, 0, []), (28, 0, .invokevirtual 317, 3, 196, 8, [8186]), (31, 0, .ifCond .le 50, 3, 0, 0, []), (34, 0, .aload_n 0, 1, 0, 0, []), (35, 0, .iload_n 1, 1, 0, 0, []), (36, 0, .iload_n 2, 1, 0, 0, []), (37, 0, .invokevirtual 329, 3, 197, 8, [8192]), (40, 0, .aload_n 0, 1, 0, 0, []), (41, 0, .iload_n 1, 1, 0, 0, []), (42, 0, .invokevirtual 317, 3, 196, 8, [8186]), (45, 0, .i2l, 1, 0, 0, []), (46, 0, .lcmp, 1, 0, 0, []), (47, 0, .ifCond .ne 34, 3, 0, 0, []), (50, 0, .aload_n 0, 1, 0, 0, []), (51, 0, .iload_n 1, 1, 0, 0, []), (52, 0, .iload_n 2, 1, 0, 0, []), (53, 0, .invokevirtual 408, 3, 207, 8, [9000]), (56, 0, .lconst 0, 1, 0, 0, []), (57, 0, .lcmp, 1, 0, 0, []), (58, 0, .ifCond .le 23, 3, 0, 0, []), (61, 0, .aload_n 0, 1, 0, 0, []), (62, 0, .iload_n 1, 1, 0, 0, []), (63, 0, .iload_n 2, 1, 0, 0, []), (64, 0, .invokevirtual 408, 3, 207, 8, [9000]), (67, 0, .aload_n 0, 1, 0, 0, []), (68, 0, .iload_n 1, 1, 0, 0, []), (69, 0, .invokevirtual 366, 3, 198, 8, [8197]), (72, 0, .i2l, 1, 0, 0, []), (73, 0, .lcmp, 1, 0, 0, []), (74, 0, .ifCond .ge 7, 3, 0, 0, []), (77, 0, .iconst 1, 1, 0, 0, []), (78, 0, .goto 4, 3, 0, 0, []), (81, 2, .iconst 0, 1, 0, 0, []), (82, 3, .istore_n 3, 1, 0, 0, []), (83, 0, .iload_n 3, 1, 0, 0, []), (84, 0, .ifCond .eq 30, 3, 0, 0, []), (87, 0, .aload_n 0, 1, 0, 0, []), (88, 0, .iload_n 1, 1, 0, 0, []), (89, 0, .aload_n 0, 1, 0, 0, []), (90, 0, .iload_n 1, 1, 0, 0, []), (91, 0, .iload_n 2, 1, 0, 0, []), (92, 0, .invokevirtual 408, 3, 207, 8, [9000]), (95, 0, .l2i, 1, 0, 0, []), (96, 0, .invokevirtual 375, 3, 201, 8, [8213]), (99, 0, .ifCond .eq 15, 3, 0, 0, []), (102, 0, .aload_n 0, 1, 0, 0, []), (103, 0, .iload_n 1, 1, 0, 0, []), (104, 0, .iload_n 2, 1, 0, 0, []), (105, 0, .iconst 0, 1, 0, 0, []), (106, 0, .invokevirtual 431, 3, 216, 8, [9043]), (109, 0, .lconst 1, 1, 0, 0, []), (110, 0, .lcmp, 1, 0, 0, []), (111, 0, .ifCond .le 5, 3, 0, 0, []), (114, 0, .iconst 0, 1, 0, 0, []), (115, 0, .ireturn, 1, 1, 0, []), (116, 0, .iconst 1, 1, 0, 0, []), (117, 0, .istore 4, 2, 0, 0, []), (119, 4, .iload 4, 2, 0, 0, []), (121, 0, .i2l, 1, 0, 0, []), (122, 0, .aload_n 0, 1, 0, 0, []), (123, 0, .iload_n 1, 1, 0, 0, []), (124, 0, .iload_n 2, 1, 0, 0, []), (125, 0, .invokevirtual 320, 3, 190, 8, [8160]), (128, 0, .ldc2_w 311, 3, 4, 0, [8239]), (131, 0, .ldiv, 1, 0, 0, []), (132, 0, .lcmp, 1, 0, 0, []), (133, 0, .ifCond .ge 60, 3, 0, 0, []), (136, 0, .aload_n 0, 1, 0, 0, []), (137, 0, .iload_n 1, 1, 0, 0, []), (138, 0, .iload_n 2, 1, 0, 0, []), (139, 0, .iload 4, 2, 0, 0, []), (141, 0, .invokevirtual 431, 3, 216, 8, [9043]), (144, 0, .lstore 5, 2, 0, 0, []), (146, 0, .lload 5, 2, 0, 0, []), (148, 0, .lconst 1, 1, 0, 0, []), (149, 0, .lcmp, 1, 0, 0, []), (150, 0, .ifCond .lt 26, 3, 0, 0, []), (153, 0, .lload 5, 2, 0, 0, []), (155, 0, .aload_n 0, 1, 0, 0, []), (156, 0, .iload_n 1, 1, 0, 0, []), (157, 0, .invokevirtual 313, 3, 185, 8, [8136]), (160, 0, .i2l, 1, 0, 0, []), (161, 0, .lcmp, 1, 0, 0, []), (162, 0, .ifCond .ge 14, 3, 0, 0, []), (165, 0, .aload_n 0, 1, 0, 0, []), (166, 0, .getfield 212, 3, 8, 96, [2, 0, 7045]), (169, 0, .lload 5, 2, 0, 0, []), (171, 0, .l2i, 1, 0, 0, []), (172, 0, .baload, 1, 3, 0, []), (173, 0, .ifCond .eq 5, 3, 0, 0, []), (176, 0, .iconst 0, 1, 0, 0, []), (177, 0, .ireturn, 1, 1, 0, []), (178, 0, .aload_n 0, 1, 0, 0, []), (179, 0, .getfield 212, 3, 8, 96, [2, 0, 7045]), (182, 0, .lload 5, 2, 0, 0, []), (184, 0, .l2i, 1, 0, 0, []), (185, 0, .iconst 1, 1, 0, 0, []), (186, 0, .bastore, 1, 3, 0, []), (187, 0, .iinc 4 1, 3, 0, 0, []), (190, 0, .goto (-71), 3, 0, 0, []), (193, 0, .iconst 1, 1, 0, 0, []), (194, 0, .ireturn, 1, 1, 0, [])]
def m_Model_isGroupRight : List aT := [(0, [(0, 2), (1, 0), (2, 0)], []), (81, [(0, 2), (1, 0), (2, 0)], []), (82, [(0, 2), (1, 0), (2, 0)], [0]), (119, [(0, 2), (1, 0), (2, 0), (4, 0)], [])]
def B_Model_isGroupRight_0 (X : Nat → List Int → AMem → Prop) (Q : Int → AMem → Prop) (x1 x2 : Int) (σ : AMem) : Prop :=
  T_Model_size [9790, x1, x2] σ (fun r1 σ2 => (if 0 < r1 then
  T_Model_size [9790, x1, x2] σ2 (fun r3 σ4 => (0 : Int) < 4 ∧ (if (r3.tmod 4) = 0 then
    T_Model_symbols [9790, x1] σ4 (fun r5 σ6 => (if 0 < r5 then
      T_Model_linkOf [9790, x1, x2] σ6 (fun r7 σ8 => T_Model_symbols [9790, x1] σ8 (fun r9 σ10 => (if r7 = r9 then
        T_Model_info [9790, x1, x2] σ10 (fun r11 σ12 => (if 0 < r11 then
          T_Model_info [9790, x1, x2] σ12 (fun r13 σ14 => T_Model_symbolMany [9790, x1] σ14 (fun r15 σ16 => (if r13 < r15 then
            X 2 [9790, x1, x2, 1] σ16
            else
            X 1 [9790, x1, x2] σ16)))
          else
          X 1 [9790, x1, x2] σ12))
        else
        X 1 [9790, x1, x2] σ10)))
      else
      X 1 [9790, x1, x2] σ6))
    else
    X 1 [9790, x1, x2] σ4))
  else
  X 1 [9790, x1, x2] σ2))
def B_Model_isGroupRight_1 (X : Nat → List Int → AMem → Prop) (Q : Int → AMem → Prop) (x1 x2 : Int) (σ : AMem) : Prop :=
  X 2 [9790, x1, x2, 0] σ
def B_Model_isGroupRight_2 (X : Nat → List Int → AMem → Prop) (Q : Int → AMem → Prop) (x1 x2 s0 : Int) (σ : AMem) : Prop :=
  (if s0 = 0 then
  Q 0 σ
  else
  T_Model_info [9790, x1, x2] σ (fun r1 σ2 => T_Model_bind [9790, x1, (w32 r1)] σ2 (fun r3 σ4 => (if r3 = 0 then
    Q 0 σ4
    else
    T_Model_groupNumber [9790, x1, x2, 0] σ4 (fun r5 σ6 => (if 1 < r5 then
      Q 0 σ6
      else
      X 3 [9790, x1, x2, 1] σ6))))))
def B_Model_isGroupRight_3 (X : Nat → List Int → AMem → Prop) (Q : Int → AMem → Prop) (x1 x2 x4 : Int) (σ : AMem) : Prop :=
  T_Model_size [9790, x1, x2] σ (fun r1 σ2 => (0 : Int) < 4 ∧ (if x4 < (r1.tdiv 4) then
  T_Model_groupNumber [9790, x1, x2, x4] σ2 (fun r3 σ4 => (if r3 < 1 then
    Q 0 σ4
    else
    T_Model_sections [9790, x1] σ4 (fun r5 σ6 => (if r3 < r5 then
      0 ≤ (w32 r3) ∧ (w32 r3) < 24 ∧ (if (σ6 9855 (w32 r3)) = 0 then
        0 ≤ (w32 r3) ∧ (w32 r3) < 24 ∧ am_let (am_upd σ6 9855 (w32 r3) 1) (fun σ7 => am_r32 (x4 + 1) ∧ X 3 [9790, x1, x2, (x4 + 1)] σ7)
        else
        Q 0 σ6)
      else
      Q 0 σ6))))
  else
  Q 1 σ2))
def B_Model_isGroupRight : (Nat → List Int → AMem → Prop) → (Int → AMem → Prop) → Nat → List Int → AMem → Prop := fun X Q j v σ => am_sel [(am_v3 (fun t x1 x2 σ => if t = 9790 then B_Model_isGroupRight_0 X Q x1 x2 σ else False)), (am_v3 (fun t x1 x2 σ => if t = 9790 then B_Model_isGroupRight_1 X Q x1 x2 σ else False)), (am_v4 (fun t x1 x2 s0 σ => if t = 9790 then B_Model_isGroupRight_2 X Q x1 x2 s0 σ else False)), (am_v4 (fun t x1 x2 x4 σ => if t = 9790 then B_Model_isGroupRight_3 X Q x1 x2 x4 σ else False))] j v σ
def T_Model_isGroupRight : List Int → AMem → (Int → AMem → Prop) → Prop := am_T B_Model_isGroupRight
abbrev y_Model_isGroupRight : MethodName := ⟨"LinkHouseModel", "isGroupRight", "(II)Z"⟩
def a_Model_isGroupRight : AC := (217, (y_Model_isGroupRight, prog_10_method_42_code, 7, (Option.some Jvm.ClassFile.FieldType.boolean)), [2, 0, 0], 0, false, { frames := 6, cells := 0, slots := 0, locals := 183 }, T_Model_isGroupRight)
set_option maxRecDepth 100000 in
theorem ms_Model_isGroupRight : am_MSp a_Model_isGroupRight := am_ms_v 9042 9 9041 107012 8 rfl (by decide +kernel)
abbrev k_Model_isGroupRight : List AC := [a_Model_size, a_Model_symbols, a_Model_linkOf, a_Model_info, a_Model_symbolMany, a_Model_bind, a_Model_groupNumber, a_Model_sections]
set_option maxRecDepth 100000 in
theorem s_Model_isGroupRight : (am_chkR { frames := 6, cells := 0, slots := 0, locals := 183 } k_Model_isGroupRight && am_chkN c_Model_isGroupRight { frames := 6, cells := 0, slots := 0, locals := 183 } && c_Model_isGroupRight.all (am_chk "LinkHouseModel" prog_10_method_42_code 7 (Option.some Jvm.ClassFile.FieldType.boolean) k_Model_isGroupRight) && c_Model_isGroupRight.all (am_chkL m_Model_isGroupRight) && decide (m_Model_isGroupRight[0]? = some (0, am_argp 0 [2, 0, 0], [])) && decide (am_argn [2, 0, 0] ≤ 7)) = true := by decide +kernel
set_option maxHeartbeats 150000 in
set_option maxRecDepth 100000 in
theorem h_Model_isGroupRight : ∀ X Q j v σ, B_Model_isGroupRight X Q j v σ → am_at GR k_Model_isGroupRight c_Model_isGroupRight m_Model_isGroupRight X Q 124 j v σ := fun X Q => am_sel_all (P := fun j v σ => am_at GR k_Model_isGroupRight c_Model_isGroupRight m_Model_isGroupRight X Q 124 j v σ) (⟨(am_v3_of (fun t x1 x2 σ h => am_tk (fun e => by subst e; exact fun h => h) h)), ⟨(am_v3_of (fun t x1 x2 σ h => am_tk (fun e => by subst e; exact fun h => h) h)), ⟨(am_v4_of (fun t x1 x2 s0 σ h => am_tk (fun e => by subst e; exact fun h => h) h)), ⟨(am_v4_of (fun t x1 x2 x4 σ h => am_tk (fun e => by subst e; exact fun h => h) h)), trivial⟩⟩⟩⟩)
set_option maxRecDepth 100000 in
theorem S_Model_isGroupRight (l : Launch) (w : AW) : am_S l w GR a_Model_isGroupRight := am_sound (rt := 0) (cal := k_Model_isGroupRight) 217 y_Model_isGroupRight prog_10_method_42_code 7 (Option.some Jvm.ClassFile.FieldType.boolean) [2, 0, 0] false { frames := 6, cells := 0, slots := 0, locals := 183 } B_Model_isGroupRight "LinkHouseModel" c_Model_isGroupRight m_Model_isGroupRight 124 ms_Model_isGroupRight (by decide +kernel) rfl rfl (am_cal (S_Model_size l w) (am_cal (S_Model_symbols l w) (am_cal (S_Model_linkOf l w) (am_cal (S_Model_info l w) (am_cal (S_Model_symbolMany l w) (am_cal (S_Model_bind l w) (am_cal (S_Model_groupNumber l w) (am_cal (S_Model_sections l w) (fun _ h => absurd h List.not_mem_nil))))))))) s_Model_isGroupRight h_Model_isGroupRight
set_option maxRecDepth 100000 in
theorem of_Model_isGroupRight {Q : Int → AMem → Prop} {x1 x2 : Int} {σ : AMem} (h : ∀ X : Nat → List Int → AMem → Prop, (∀ (x1 x2 : Int) (σ : AMem), B_Model_isGroupRight_0 X Q x1 x2 σ → X 0 [9790, x1, x2] σ) → (∀ (x1 x2 : Int) (σ : AMem), B_Model_isGroupRight_1 X Q x1 x2 σ → X 1 [9790, x1, x2] σ) → (∀ (x1 x2 s0 : Int) (σ : AMem), B_Model_isGroupRight_2 X Q x1 x2 s0 σ → X 2 [9790, x1, x2, s0] σ) → (∀ (x1 x2 x4 : Int) (σ : AMem), B_Model_isGroupRight_3 X Q x1 x2 x4 σ → X 3 [9790, x1, x2, x4] σ) → X 0 [9790, x1, x2] σ) : T_Model_isGroupRight [9790, x1, x2] σ Q := fun X hX => h X (fun x1 x2 σ h => hX 0 [9790, x1, x2] σ h) (fun x1 x2 σ h => hX 1 [9790, x1, x2] σ h) (fun x1 x2 s0 σ h => hX 2 [9790, x1, x2, s0] σ h) (fun x1 x2 x4 σ h => hX 3 [9790, x1, x2, x4] σ h)
def c_Model_groupsError : List aE := [(0, 1, .iconst 0, 1, 0, 0, []), (1, 0, .istore_n 2, 1, 0, 0, []), (2, 2, .iload_n 2, 1, 0, 0, []), (3, 0, .bipush 24, 2, 0, 0, []), (5, 0, .if_icmp .ge 16, 3, 0, 0, []), (8, 0, .aload_n 0, 1, 0, 0, []), (9, 0, .getfield 212, 3, 8, 96, [2, 0, 7045]), (12, 0, .iload_n 2, 1, 0, 0, []), (13, 0, .iconst 0, 1, 0, 0, []), (14, 0, .bastore, 1, 3, 0, []), (15, 0, .iinc 2 1, 3, 0, 0, []), (18, 0, .goto (-16), 3, 0, 0, []), (21, 0, .iconst 1, 1, 0, 0, []), (22, 0, .istore_n 2, 1, 0, 0, []), (23, 3, .iload_n 2, 1, 0, 0, []), (24, 0, .aload_n 0, 1, 0, 0, []), (25, 0, .iload_n 1, 1, 0, 0, []), (26, 0, .invokevirtual 313, 3, 185, 8, [8136]), (29, 0, .if_icmp .ge 30, 3, 0, 0, []), (32, 0, .aload_n 0, 1, 0, 0, []), (33, 0, .iload_n 1, 1, 0, 0, []), (34, 0, .iload_n 2, 1, 0, 0, []), (35, 0, .invokevirtual 435, 3, 215, 8, [9034]), (38, 0, .ifCond .eq 15, 3, 0, 0, []), (41, 0, .aload_n 0, 1, 0, 0, []), (42, 0, .iload_n 1, 1, 0, 0, []), (43, 0, .iload_n 2, 1, 0, 0, []), (44, 0, .invokevirtual 438, 3, 217, 8, [9039]), (47, 0, .ifCond .ne 6, 3, 0, 0, []), (50, 0, .bipush 9, 2, 0, 0, []), (52, 0, .ireturn, 1, 0, 0, []), (53, 4, .iinc 2 1, 3, 0, 0, []), (56, 0, .goto (-33), 3, 0, 0, []), (59, 0, .iconst 0, 1, 0, 0, []), (60, 0, .ireturn, 1, 0, 0, [])]
def m_Model_groupsError : List aT := [(0, [(0, 2), (1, 0)], []), (2, [(0, 2), (1, 0), (2, 0)], []), (23, [(0, 2), (1, 0), (2, 0)], []), (53, [(0, 2), (1, 0), (2, 0)], [])]
def B_Model_groupsError_0 (X : Nat → List Int → AMem → Prop) (Q : Int → AMem → Prop) (x1 : Int) (σ : AMem) : Prop :=
  X 1 [9790, x1, 0] σ
def B_Model_groupsError_1 (X : Nat → List Int → AMem → Prop) (Q : Int → AMem → Prop) (x1 x2 : Int) (σ : AMem) : Prop :=
  (if x2 < 24 then
  0 ≤ x2 ∧ x2 < 24 ∧ am_let (am_upd σ 9855 x2 0) (fun σ1 => am_r32 (x2 + 1) ∧ X 1 [9790, x1, (x2 + 1)] σ1)
  else
  X 2 [9790, x1, 1] σ)
def B_Model_groupsError_2 (X : Nat → List Int → AMem → Prop) (Q : Int → AMem → Prop) (x1 x2 : Int) (σ : AMem) : Prop :=
  T_Model_sections [9790, x1] σ (fun r1 σ2 => (if x2 < r1 then
  T_Model_isGroup [9790, x1, x2] σ2 (fun r3 σ4 => (if r3 = 0 then
    X 3 [9790, x1, x2] σ4
    else
    T_Model_isGroupRight [9790, x1, x2] σ4 (fun r5 σ6 => (if r5 = 0 then
      Q 9 σ6
      else
      X 3 [9790, x1, x2] σ6))))
  else
  Q 0 σ2))
def B_Model_groupsError_3 (X : Nat → List Int → AMem → Prop) (Q : Int → AMem → Prop) (x1 x2 : Int) (σ : AMem) : Prop :=
  am_r32 (x2 + 1) ∧ X 2 [9790, x1, (x2 + 1)] σ
def B_Model_groupsError : (Nat → List Int → AMem → Prop) → (Int → AMem → Prop) → Nat → List Int → AMem → Prop := fun X Q j v σ => am_sel [(am_v2 (fun t x1 σ => if t = 9790 then B_Model_groupsError_0 X Q x1 σ else False)), (am_v3 (fun t x1 x2 σ => if t = 9790 then B_Model_groupsError_1 X Q x1 x2 σ else False)), (am_v3 (fun t x1 x2 σ => if t = 9790 then B_Model_groupsError_2 X Q x1 x2 σ else False)), (am_v3 (fun t x1 x2 σ => if t = 9790 then B_Model_groupsError_3 X Q x1 x2 σ else False))] j v σ
def T_Model_groupsError : List Int → AMem → (Int → AMem → Prop) → Prop := am_T B_Model_groupsError
abbrev y_Model_groupsError : MethodName := ⟨"LinkHouseModel", "groupsError", "(I)I"⟩
def a_Model_groupsError : AC := (218, (y_Model_groupsError, prog_10_method_43_code, 3, (Option.some Jvm.ClassFile.FieldType.int)), [2, 0], 0, false, { frames := 7, cells := 0, slots := 0, locals := 217 }, T_Model_groupsError)
set_option maxRecDepth 100000 in
theorem ms_Model_groupsError : am_MSp a_Model_groupsError := am_ms_v 9033 9 9032 107010 8 rfl (by decide +kernel)
abbrev k_Model_groupsError : List AC := [a_Model_sections, a_Model_isGroup, a_Model_isGroupRight]
set_option maxRecDepth 100000 in
theorem s_Model_groupsError : (am_chkR { frames := 7, cells := 0, slots := 0, locals := 217 } k_Model_groupsError && am_chkN c_Model_groupsError { frames := 7, cells := 0, slots := 0, locals := 217 } && c_Model_groupsError.all (am_chk "LinkHouseModel" prog_10_method_43_code 3 (Option.some Jvm.ClassFile.FieldType.int) k_Model_groupsError) && c_Model_groupsError.all (am_chkL m_Model_groupsError) && decide (m_Model_groupsError[0]? = some (0, am_argp 0 [2, 0], [])) && decide (am_argn [2, 0] ≤ 3)) = true := by decide +kernel
set_option maxHeartbeats 150000 in
set_option maxRecDepth 100000 in
theorem h_Model_groupsError : ∀ X Q j v σ, B_Model_groupsError X Q j v σ → am_at GR k_Model_groupsError c_Model_groupsError m_Model_groupsError X Q 40 j v σ := fun X Q => am_sel_all (P := fun j v σ => am_at GR k_Model_groupsError c_Model_groupsError m_Model_groupsError X Q 40 j v σ) (⟨(am_v2_of (fun t x1 σ h => am_tk (fun e => by subst e; exact fun h => h) h)), ⟨(am_v3_of (fun t x1 x2 σ h => am_tk (fun e => by subst e; exact fun h => h) h)), ⟨(am_v3_of (fun t x1 x2 σ h => am_tk (fun e => by subst e; exact fun h => h) h)), ⟨(am_v3_of (fun t x1 x2 σ h => am_tk (fun e => by subst e; exact fun h => h) h)), trivial⟩⟩⟩⟩)
set_option maxRecDepth 100000 in
theorem S_Model_groupsError (l : Launch) (w : AW) : am_S l w GR a_Model_groupsError := am_sound (rt := 0) (cal := k_Model_groupsError) 218 y_Model_groupsError prog_10_method_43_code 3 (Option.some Jvm.ClassFile.FieldType.int) [2, 0] false { frames := 7, cells := 0, slots := 0, locals := 217 } B_Model_groupsError "LinkHouseModel" c_Model_groupsError m_Model_groupsError 40 ms_Model_groupsError (by decide +kernel) rfl rfl (am_cal (S_Model_sections l w) (am_cal (S_Model_isGroup l w) (am_cal (S_Model_isGroupRight l w) (fun _ h => absurd h List.not_mem_nil)))) s_Model_groupsError h_Model_groupsError
set_option maxRecDepth 100000 in
theorem of_Model_groupsError {Q : Int → AMem → Prop} {x1 : Int} {σ : AMem} (h : ∀ X : Nat → List Int → AMem → Prop, (∀ (x1 : Int) (σ : AMem), B_Model_groupsError_0 X Q x1 σ → X 0 [9790, x1] σ) → (∀ (x1 x2 : Int) (σ : AMem), B_Model_groupsError_1 X Q x1 x2 σ → X 1 [9790, x1, x2] σ) → (∀ (x1 x2 : Int) (σ : AMem), B_Model_groupsError_2 X Q x1 x2 σ → X 2 [9790, x1, x2] σ) → (∀ (x1 x2 : Int) (σ : AMem), B_Model_groupsError_3 X Q x1 x2 σ → X 3 [9790, x1, x2] σ) → X 0 [9790, x1] σ) : T_Model_groupsError [9790, x1] σ Q := fun X hX => h X (fun x1 σ h => hX 0 [9790, x1] σ h) (fun x1 x2 σ h => hX 1 [9790, x1, x2] σ h) (fun x1 x2 σ h => hX 2 [9790, x1, x2] σ h) (fun x1 x2 σ h => hX 3 [9790, x1, x2] σ h)
