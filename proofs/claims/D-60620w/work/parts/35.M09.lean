/-! methods: printed by gen/all.py -/
def c_Model_fillSite : List aE := [(0, 1, .aload_n 0, 1, 0, 0, []), (1, 0, .iload 5, 2, 0, 0, []), (3, 0, .iconst 3, 1, 0, 0, []), (4, 0, .if_icmp .ne 9, 3, 0, 0, []), (7, 0, .iload_n 1, 1, 0, 0, []), (8, 0, .iconst 1, 1, 0, 0, []), (9, 0, .isub, 1, 0, 0, []), (10, 0, .goto 4, 3, 0, 0, []), (13, 0, .iload_n 1, 1, 0, 0, []), (14, 2, .lload_n 2, 1, 0, 0, []), (15, 0, .iload 4, 2, 0, 0, []), (17, 0, .invokevirtual 750, 3, 287, 8, [10089]), (20, 0, .iload 5, 2, 0, 0, []), (22, 0, .iconst 1, 1, 0, 0, []), (23, 0, .if_icmp .ne 13, 3, 0, 0, []), (26, 0, .aload_n 0, 1, 0, 0, []), (27, 0, .getfield 14, 3, 8, 3, [2, 0, 6192]), (30, 0, .iload_n 1, 1, 0, 0, []), (31, 0, .iconst 2, 1, 0, 0, []), (32, 0, .isub, 1, 0, 0, []), (33, 0, .bipush (-115), 2, 0, 0, []), (35, 0, .bastore, 1, 2, 0, []), (36, 3, .iload 5, 2, 0, 0, []), (38, 0, .iconst 2, 1, 0, 0, []), (39, 0, .if_icmp .ne 14, 3, 0, 0, []), (42, 0, .aload_n 0, 1, 0, 0, []), (43, 0, .iload_n 1, 1, 0, 0, []), (44, 0, .iconst 2, 1, 0, 0, []), (45, 0, .isub, 1, 0, 0, []), (46, 0, .ldc2_w 754, 3, 59495, 0, [10093]), (49, 0, .iconst 2, 1, 0, 0, []), (50, 0, .invokevirtual 750, 3, 287, 8, [10089]), (53, 4, .iload 5, 2, 0, 0, []), (55, 0, .iconst 3, 1, 0, 0, []), (56, 0, .if_icmp .eq 4, 3, 0, 0, []), (59, 0, .return_, 1, 0, 0, []), (60, 0, .aload_n 0, 1, 0, 0, []), (61, 0, .getfield 14, 3, 8, 3, [2, 0, 6192]), (64, 0, .iload_n 1, 1, 0, 0, []), (65, 0, .iconst 2, 1, 0, 0, []), (66, 0, .isub, 1, 0, 0, []), (67, 0, .bipush (-23), 2, 0, 0, []), (69, 0, .bastore, 1, 2, 0, []), (70, 0, .aload_n 0, 1, 0, 0, []), (71, 0, .getfield 14, 3, 8, 3, [2, 0, 6192]), (74, 0, .iload_n 1, 1, 0, 0, []), (75, 0, .iconst 3, 1, 0, 0, []), (76, 0, .iadd, 1, 0, 0, []), (77, 0, .bipush (-112), 2, 0, 0, []), (79, 0, .bastore, 1, 2, 0, []), (80, 0, .return_, 1, 0, 0, [])]
def m_Model_fillSite : List aT := [(0, [(0, 2), (1, 0), (2, 1), (4, 0), (5, 0)], []), (14, [(0, 2), (1, 0), (2, 1), (4, 0), (5, 0)], [0, 2]), (36, [(0, 2), (1, 0), (5, 0)], []), (53, [(0, 2), (1, 0), (5, 0)], [])]
def B_Model_fillSite_0 (X : Nat → List Int → AMem → Prop) (Q : Int → AMem → Prop) (x1 x2 x4 x5 : Int) (σ : AMem) : Prop :=
  (if x5 = 3 then
  am_r32 (x1 - 1) ∧ X 1 [9790, x1, x2, x4, x5, (x1 - 1), 9790] σ
  else
  X 1 [9790, x1, x2, x4, x5, x1, 9790] σ)
def B_Model_fillSite_1 (X : Nat → List Int → AMem → Prop) (Q : Int → AMem → Prop) (x1 x2 x4 x5 s0 s1 : Int) (σ : AMem) : Prop :=
  (if ly_k s1 = 28 then T_Model_put [s1, s0, x2, x4] σ (fun r1 σ2 => (if x5 = 1 then
  am_r32 (x1 - 2) ∧ 0 ≤ (x1 - 2) ∧ (x1 - 2) < 65536 ∧ am_let (am_upd σ2 9792 (x1 - 2) (w8 (-115))) (fun σ3 => X 2 [9790, x1, x5] σ3)
  else
  X 2 [9790, x1, x5] σ2)) else False)
def B_Model_fillSite_2 (X : Nat → List Int → AMem → Prop) (Q : Int → AMem → Prop) (x1 x5 : Int) (σ : AMem) : Prop :=
  (if x5 = 2 then
  am_r32 (x1 - 2) ∧ T_Model_put [9790, (x1 - 2), 59495, 2] σ (fun r1 σ2 => X 3 [9790, x1, x5] σ2)
  else
  X 3 [9790, x1, x5] σ)
def B_Model_fillSite_3 (X : Nat → List Int → AMem → Prop) (Q : Int → AMem → Prop) (x1 x5 : Int) (σ : AMem) : Prop :=
  (if x5 = 3 then
  am_r32 (x1 - 2) ∧ 0 ≤ (x1 - 2) ∧ (x1 - 2) < 65536 ∧ am_let (am_upd σ 9792 (x1 - 2) (w8 (-23))) (fun σ1 => am_r32 (x1 + 3) ∧ 0 ≤ (x1 + 3) ∧ (x1 + 3) < 65536 ∧ am_let (am_upd σ1 9792 (x1 + 3) (w8 (-112))) (fun σ2 => Q 0 σ2))
  else
  Q 0 σ)
def B_Model_fillSite : (Nat → List Int → AMem → Prop) → (Int → AMem → Prop) → Nat → List Int → AMem → Prop := fun X Q j v σ => am_sel [(am_v5 (fun t x1 x2 x4 x5 σ => if t = 9790 then B_Model_fillSite_0 X Q x1 x2 x4 x5 σ else False)), (am_v7 (fun t x1 x2 x4 x5 s0 s1 σ => if t = 9790 then B_Model_fillSite_1 X Q x1 x2 x4 x5 s0 s1 σ else False)), (am_v3 (fun t x1 x5 σ => if t = 9790 then B_Model_fillSite_2 X Q x1 x5 σ else False)), (am_v3 (fun t x1 x5 σ => if t = 9790 then B_Model_fillSite_3 X Q x1 x5 σ else False))] j v σ
def T_Model_fillSite : List Int → AMem → (Int → AMem → Prop) → Prop := am_T B_Model_fillSite
abbrev y_Model_fillSite : MethodName := ⟨"LinkHouseModel", "fillSite", "(IJII)V"⟩
def a_Model_fillSite : AC := (288, (y_Model_fillSite, prog_10_method_112_code, 6, (Option.none : Option Jvm.ClassFile.FieldType)), [2, 0, 1, 0, 0], 3, false, { frames := 1, cells := 0, slots := 0, locals := 33 }, T_Model_fillSite)
set_option maxRecDepth 100000 in
theorem ms_Model_fillSite : am_MSp a_Model_fillSite := am_ms_v 10088 9 10087 111011 8 rfl (by decide +kernel)
abbrev k_Model_fillSite : List AC := [a_Model_put]
set_option maxRecDepth 100000 in
theorem s_Model_fillSite : (am_chkR { frames := 1, cells := 0, slots := 0, locals := 33 } k_Model_fillSite && am_chkN c_Model_fillSite { frames := 1, cells := 0, slots := 0, locals := 33 } && c_Model_fillSite.all (am_chk "LinkHouseModel" prog_10_method_112_code 6 (Option.none : Option Jvm.ClassFile.FieldType) k_Model_fillSite) && c_Model_fillSite.all (am_chkL m_Model_fillSite) && decide (m_Model_fillSite[0]? = some (0, am_argp 0 [2, 0, 1, 0, 0], [])) && decide (am_argn [2, 0, 1, 0, 0] ≤ 6)) = true := by decide +kernel
set_option maxHeartbeats 150000 in
set_option maxRecDepth 100000 in
theorem h_Model_fillSite : ∀ X Q j v σ, B_Model_fillSite X Q j v σ → am_at GR k_Model_fillSite c_Model_fillSite m_Model_fillSite X Q 56 j v σ := fun X Q => am_sel_all (P := fun j v σ => am_at GR k_Model_fillSite c_Model_fillSite m_Model_fillSite X Q 56 j v σ) (⟨(am_v5_of (fun t x1 x2 x4 x5 σ h => am_tk (fun e => by subst e; exact fun h => h) h)), ⟨(am_v7_of (fun t x1 x2 x4 x5 s0 s1 σ h => am_tk (fun e => by subst e; exact fun h => h) h)), ⟨(am_v3_of (fun t x1 x5 σ h => am_tk (fun e => by subst e; exact fun h => h) h)), ⟨(am_v3_of (fun t x1 x5 σ h => am_tk (fun e => by subst e; exact fun h => h) h)), trivial⟩⟩⟩⟩)
set_option maxRecDepth 100000 in
theorem S_Model_fillSite (l : Launch) (w : AW) : am_S l w GR a_Model_fillSite := am_sound (rt := 3) (cal := k_Model_fillSite) 288 y_Model_fillSite prog_10_method_112_code 6 (Option.none : Option Jvm.ClassFile.FieldType) [2, 0, 1, 0, 0] false { frames := 1, cells := 0, slots := 0, locals := 33 } B_Model_fillSite "LinkHouseModel" c_Model_fillSite m_Model_fillSite 56 ms_Model_fillSite (by decide +kernel) rfl rfl (am_cal (S_Model_put l w) (fun _ h => absurd h List.not_mem_nil)) s_Model_fillSite h_Model_fillSite
set_option maxRecDepth 100000 in
theorem of_Model_fillSite {Q : Int → AMem → Prop} {x1 x2 x4 x5 : Int} {σ : AMem} (h : ∀ X : Nat → List Int → AMem → Prop, (∀ (x1 x2 x4 x5 : Int) (σ : AMem), B_Model_fillSite_0 X Q x1 x2 x4 x5 σ → X 0 [9790, x1, x2, x4, x5] σ) → (∀ (x1 x2 x4 x5 s0 s1 : Int) (σ : AMem), B_Model_fillSite_1 X Q x1 x2 x4 x5 s0 s1 σ → X 1 [9790, x1, x2, x4, x5, s0, s1] σ) → (∀ (x1 x5 : Int) (σ : AMem), B_Model_fillSite_2 X Q x1 x5 σ → X 2 [9790, x1, x5] σ) → (∀ (x1 x5 : Int) (σ : AMem), B_Model_fillSite_3 X Q x1 x5 σ → X 3 [9790, x1, x5] σ) → X 0 [9790, x1, x2, x4, x5] σ) : T_Model_fillSite [9790, x1, x2, x4, x5] σ Q := fun X hX => h X (fun x1 x2 x4 x5 σ h => hX 0 [9790, x1, x2, x4, x5] σ h) (fun x1 x2 x4 x5 s0 s1 σ h => hX 1 [9790, x1, x2, x4, x5, s0, s1] σ h) (fun x1 x5 σ h => hX 2 [9790, x1, x5] σ h) (fun x1 x5 σ h => hX 3 [9790, x1, x5] σ h)
def c_Model_runsOver : List aE := [(0, 1, .lload_n 1, 1, 0, 0, []), (1, 0, .ldc2_w 307, 3, 2, 0, [8172]), (4, 0, .lcmp, 1, 0, 0, []), (5, 0, .ifCond .lt 11, 3, 0, 0, []), (8, 0, .lload_n 1, 1, 0, 0, []), (9, 0, .ldc2_w 397, 3, 18, 0, [9019]), (12, 0, .lcmp, 1, 0, 0, []), (13, 0, .ifCond .ne 5, 3, 0, 0, []), (16, 0, .iconst 0, 1, 0, 0, []), (17, 0, .ireturn, 1, 1, 0, []), (18, 0, .lload_n 1, 1, 0, 0, []), (19, 0, .ldc2_w 399, 3, 10, 0, [9020]), (22, 0, .lcmp, 1, 0, 0, []), (23, 0, .ifCond .ne 20, 3, 0, 0, []), (26, 0, .lload_n 3, 1, 0, 0, []), (27, 0, .bipush 32, 2, 0, 0, []), (29, 0, .lushr, 1, 0, 0, []), (30, 0, .lconst 0, 1, 0, 0, []), (31, 0, .lcmp, 1, 0, 0, []), (32, 0, .ifCond .eq 7, 3, 0, 0, []), (35, 0, .iconst 1, 1, 0, 0, []), (36, 0, .goto 28, 3, 0, 0, []), (39, 0, .iconst 0, 1, 0, 0, []), (40, 0, .goto 24, 3, 0, 0, []), (43, 0, .lload_n 3, 1, 0, 0, []), (44, 0, .ldc2_w 728, 3, 2147483648, 1, [10098]), (47, 0, .lcmp, 1, 0, 0, []), (48, 0, .ifCond .lt 11, 3, 0, 0, []), (51, 0, .lload_n 3, 1, 0, 0, []), (52, 0, .ldc2_w 730, 3, 2147483647, 0, [10099]), (55, 0, .lcmp, 1, 0, 0, []), (56, 0, .ifCond .le 7, 3, 0, 0, []), (59, 0, .iconst 1, 1, 0, 0, []), (60, 0, .goto 4, 3, 0, 0, []), (63, 0, .iconst 0, 1, 0, 0, []), (64, 0, .ireturn, 1, 1, 0, [])]
def m_Model_runsOver : List aT := [(0, [(0, 2), (1, 1), (3, 1)], [])]
def B_Model_runsOver_0 (X : Nat → List Int → AMem → Prop) (Q : Int → AMem → Prop) (x1 x3 : Int) (σ : AMem) : Prop :=
  (if x1 < 2 then
  Q 0 σ
  else
  (if x1 = 18 then
    Q 0 σ
    else
    (if x1 = 10 then
      (if (l_ushr x3 32) = 0 then
        Q 0 σ
        else
        Q 1 σ)
      else
      (if x3 < (-2147483648) then
        Q 1 σ
        else
        (if 2147483647 < x3 then
          Q 1 σ
          else
          Q 0 σ)))))
def B_Model_runsOver : (Nat → List Int → AMem → Prop) → (Int → AMem → Prop) → Nat → List Int → AMem → Prop := fun X Q j v σ => am_sel [(am_v3 (fun t x1 x3 σ => if t = 9790 then B_Model_runsOver_0 X Q x1 x3 σ else False))] j v σ
def T_Model_runsOver : List Int → AMem → (Int → AMem → Prop) → Prop := am_T B_Model_runsOver
abbrev y_Model_runsOver : MethodName := ⟨"LinkHouseModel", "runsOver", "(JJ)Z"⟩
def a_Model_runsOver : AC := (289, (y_Model_runsOver, prog_10_method_109_code, 5, (Option.some Jvm.ClassFile.FieldType.boolean)), [2, 1, 1], 0, false, { frames := 0, cells := 0, slots := 0, locals := 0 }, T_Model_runsOver)
set_option maxRecDepth 100000 in
theorem ms_Model_runsOver : am_MSp a_Model_runsOver := am_ms_v 10097 9 10096 111013 8 rfl (by decide +kernel)
abbrev k_Model_runsOver : List AC := []
set_option maxRecDepth 100000 in
theorem s_Model_runsOver : (am_chkR { frames := 0, cells := 0, slots := 0, locals := 0 } k_Model_runsOver && am_chkN c_Model_runsOver { frames := 0, cells := 0, slots := 0, locals := 0 } && c_Model_runsOver.all (am_chk "LinkHouseModel" prog_10_method_109_code 5 (Option.some Jvm.ClassFile.FieldType.boolean) k_Model_runsOver) && c_Model_runsOver.all (am_chkL m_Model_runsOver) && decide (m_Model_runsOver[0]? = some (0, am_argp 0 [2, 1, 1], [])) && decide (am_argn [2, 1, 1] ≤ 5)) = true := by decide +kernel
set_option maxHeartbeats 150000 in
set_option maxRecDepth 100000 in
theorem h_Model_runsOver : ∀ X Q j v σ, B_Model_runsOver X Q j v σ → am_at GR k_Model_runsOver c_Model_runsOver m_Model_runsOver X Q 41 j v σ := fun X Q => am_sel_all (P := fun j v σ => am_at GR k_Model_runsOver c_Model_runsOver m_Model_runsOver X Q 41 j v σ) (⟨(am_v3_of (fun t x1 x3 σ h => am_tk (fun e => by subst e; exact fun h => h) h)), trivial⟩)
set_option maxRecDepth 100000 in
theorem S_Model_runsOver (l : Launch) (w : AW) : am_S l w GR a_Model_runsOver := am_sound (rt := 0) (cal := k_Model_runsOver) 289 y_Model_runsOver prog_10_method_109_code 5 (Option.some Jvm.ClassFile.FieldType.boolean) [2, 1, 1] false { frames := 0, cells := 0, slots := 0, locals := 0 } B_Model_runsOver "LinkHouseModel" c_Model_runsOver m_Model_runsOver 41 ms_Model_runsOver (by decide +kernel) rfl rfl (fun _ h => absurd h List.not_mem_nil) s_Model_runsOver h_Model_runsOver
set_option maxRecDepth 100000 in
theorem of_Model_runsOver {Q : Int → AMem → Prop} {x1 x3 : Int} {σ : AMem} (h : ∀ X : Nat → List Int → AMem → Prop, (∀ (x1 x3 : Int) (σ : AMem), B_Model_runsOver_0 X Q x1 x3 σ → X 0 [9790, x1, x3] σ) → X 0 [9790, x1, x3] σ) : T_Model_runsOver [9790, x1, x3] σ Q := fun X hX => h X (fun x1 x3 σ h => hX 0 [9790, x1, x3] σ h)
set_option maxRecDepth 100000 in
theorem iff_Model_runsOver {Q : Int → AMem → Prop} {X : Nat → List Int → AMem → Prop} {x1 x3 : Int} {σ : AMem} : T_Model_runsOver [9790, x1, x3] σ Q ↔ B_Model_runsOver_0 X Q x1 x3 σ := ⟨fun h => h (fun j v σ => B_Model_runsOver X Q j v σ) (fun _ _ _ q => q), fun h _ hX => hX 0 _ _ h⟩
def c_Model_one : List aE := [(0, 1, .aload_n 0, 1, 0, 0, []), (1, 0, .iload_n 1, 1, 0, 0, []), (2, 0, .invokevirtual 503, 3, 236, 8, [9124]), (5, 0, .istore 5, 2, 0, 0, []), (7, 0, .aload_n 0, 1, 0, 0, []), (8, 0, .aload_n 0, 1, 0, 0, []), (9, 0, .iload 5, 2, 0, 0, []), (11, 0, .iload_n 2, 1, 0, 0, []), (12, 0, .iload_n 3, 1, 0, 0, []), (13, 0, .invokevirtual 411, 3, 210, 8, [9012]), (16, 0, .bipush 8, 2, 0, 0, []), (18, 0, .iadd, 1, 0, 0, []), (19, 0, .iconst 4, 1, 0, 0, []), (20, 0, .invokevirtual 291, 3, 183, 8, [8120]), (23, 0, .lstore 6, 2, 0, 0, []), (25, 0, .lload 6, 2, 0, 0, []), (27, 0, .lconst 0, 1, 0, 0, []), (28, 0, .lcmp, 1, 0, 0, []), (29, 0, .ifCond .ne 4, 3, 0, 0, []), (32, 0, .return_, 1, 0, 0, []), (33, 0, .aload_n 0, 1, 0, 0, []), (34, 0, .iload_n 1, 1, 0, 0, []), (35, 0, .iload_n 2, 1, 0, 0, []), (36, 0, .iload_n 3, 1, 0, 0, []), (37, 0, .invokevirtual 736, 3, 286, 8, [10069]), (40, 0, .lstore 8, 2, 0, 0, []), (42, 0, .iload 4, 2, 0, 0, []), (44, 0, .ifCond .eq 67, 3, 0, 0, []), (47, 0, .aload_n 0, 1, 0, 0, []), (48, 0, .iload 5, 2, 0, 0, []), (50, 0, .aload_n 0, 1, 0, 0, []), (51, 0, .iload 5, 2, 0, 0, []), (53, 0, .iload_n 2, 1, 0, 0, []), (54, 0, .invokevirtual 408, 3, 207, 8, [9000]), (57, 0, .l2i, 1, 0, 0, []), (58, 0, .invokevirtual 604, 3, 256, 8, [9192]), (61, 0, .invokestatic 633, 3, 269, 0, [10010]), (64, 0, .istore 10, 2, 0, 0, []), (66, 0, .aload_n 0, 1, 0, 0, []), (67, 0, .aload_n 0, 1, 0, 0, []), (68, 0, .getfield 154, 3, 8, 60, [2, 0, 7009]), (71, 0, .iload 10, 2, 0, 0, []), (73, 0, .laload, 1, 0, 0, []), (74, 0, .aload_n 0, 1, 0, 0, []), (75, 0, .iload_n 1, 1, 0, 0, []), (76, 0, .iload_n 2, 1, 0, 0, []), (77, 0, .iload_n 3, 1, 0, 0, []), (78, 0, .invokevirtual 722, 3, 284, 8, [10077]), (81, 0, .ladd, 1, 0, 0, []), (82, 0, .aload_n 0, 1, 0, 0, []), (83, 0, .getfield 157, 3, 8, 61, [2, 0, 7010]), (86, 0, .iload 10, 2, 0, 0, []), (88, 0, .laload, 1, 0, 0, []), (89, 0, .lsub, 1, 0, 0, []), (90, 0, .l2i, 1, 0, 0, []), (91, 0, .lload 8, 2, 0, 0, []), (93, 0, .lload 6, 2, 0, 0, []), (95, 0, .invokestatic 415, 3, 212, 0, [9016]), (98, 0, .aload_n 0, 1, 0, 0, []), (99, 0, .iload_n 1, 1, 0, 0, []), (100, 0, .iload_n 2, 1, 0, 0, []), (101, 0, .iload_n 3, 1, 0, 0, []), (102, 0, .invokevirtual 588, 3, 265, 8, [9225]), (105, 0, .invokevirtual 739, 3, 288, 8, [10085]), (108, 0, .goto 30, 3, 0, 0, []), (111, 0, .aload_n 0, 1, 0, 0, []), (112, 0, .lload 6, 2, 0, 0, []), (114, 0, .lload 8, 2, 0, 0, []), (116, 0, .invokevirtual 743, 3, 289, 8, [10094]), (119, 0, .ifCond .eq 19, 3, 0, 0, []), (122, 0, .aload_n 0, 1, 0, 0, []), (123, 0, .iconst 4, 1, 0, 0, []), (124, 0, .putfield 40, 3, 8, 13, [0, 0, 6202]), (127, 0, .aload_n 0, 1, 0, 0, []), (128, 0, .aload_n 0, 1, 0, 0, []), (129, 0, .iload_n 1, 1, 0, 0, []), (130, 0, .iload_n 2, 1, 0, 0, []), (131, 0, .iload_n 3, 1, 0, 0, []), (132, 0, .invokevirtual 722, 3, 284, 8, [10077]), (135, 0, .putfield 747, 3, 8, 16, [1, 0, 6205]), (138, 0, .return_, 1, 0, 0, [])]
def m_Model_one : List aT := [(0, [(0, 2), (1, 0), (2, 0), (3, 0), (4, 0)], [])]
def B_Model_one_0 (X : Nat → List Int → AMem → Prop) (Q : Int → AMem → Prop) (x1 x2 x3 x4 : Int) (σ : AMem) : Prop :=
  T_Model_object [9790, x1] σ (fun r1 σ2 => T_Model_site [9790, r1, x2, x3] σ2 (fun r3 σ4 => am_r32 (r3 + 8) ∧ T_Model_num [9790, (r3 + 8), 4] σ4 (fun r5 σ6 => (if r5 = 0 then
  Q 0 σ6
  else
  T_Model_siteValue [9790, x1, x2, x3] σ6 (fun r7 σ8 => (if x4 = 0 then
    T_Model_runsOver [9790, r5, r7] σ8 (fun r9 σ10 => (if r9 = 0 then
      Q 0 σ10
      else
      am_let (am_upd σ10 9790 13 4) (fun σ11 => T_Model_siteAddress [9790, x1, x2, x3] σ11 (fun r12 σ13 => am_let (am_upd σ13 9790 16 r12) (fun σ14 => Q 0 σ14)))))
    else
    T_Model_info [9790, r1, x2] σ8 (fun r15 σ16 => T_Model_group [9790, r1, (w32 r15)] σ16 (fun r17 σ18 => T_Model_segmentOf [r17] σ18 (fun r19 σ20 => 0 ≤ r19 ∧ r19 < 3 ∧ T_Model_siteAddress [9790, x1, x2, x3] σ20 (fun r21 σ22 => 0 ≤ r19 ∧ r19 < 3 ∧ T_Model_width [r5] σ22 (fun r23 σ24 => T_Model_shortKind [9790, x1, x2, x3] σ24 (fun r25 σ26 => T_Model_fillSite [9790, (w32 (w64 ((w64 ((σ20 9836 r19) + r21)) - (σ22 9837 r19)))), r7, r23, r25] σ26 (fun r27 σ28 => Q 0 σ28)))))))))))))
def B_Model_one : (Nat → List Int → AMem → Prop) → (Int → AMem → Prop) → Nat → List Int → AMem → Prop := fun X Q j v σ => am_sel [(am_v5 (fun t x1 x2 x3 x4 σ => if t = 9790 then B_Model_one_0 X Q x1 x2 x3 x4 σ else False))] j v σ
def T_Model_one : List Int → AMem → (Int → AMem → Prop) → Prop := am_T B_Model_one
abbrev y_Model_one : MethodName := ⟨"LinkHouseModel", "one", "(IIIZ)V"⟩
def a_Model_one : AC := (290, (y_Model_one, prog_10_method_111_code, 11, (Option.none : Option Jvm.ClassFile.FieldType)), [2, 0, 0, 0, 0], 3, false, { frames := 12, cells := 0, slots := 0, locals := 386 }, T_Model_one)
set_option maxRecDepth 100000 in
theorem ms_Model_one : am_MSp a_Model_one := am_ms_v 10068 9 10067 111006 8 rfl (by decide +kernel)
abbrev k_Model_one : List AC := [a_Model_object, a_Model_site, a_Model_num, a_Model_siteValue, a_Model_info, a_Model_group, a_Model_segmentOf, a_Model_siteAddress, a_Model_width, a_Model_shortKind, a_Model_fillSite, a_Model_runsOver]
set_option maxRecDepth 100000 in
theorem s_Model_one : (am_chkR { frames := 12, cells := 0, slots := 0, locals := 386 } k_Model_one && am_chkN c_Model_one { frames := 12, cells := 0, slots := 0, locals := 386 } && c_Model_one.all (am_chk "LinkHouseModel" prog_10_method_111_code 11 (Option.none : Option Jvm.ClassFile.FieldType) k_Model_one) && c_Model_one.all (am_chkL m_Model_one) && decide (m_Model_one[0]? = some (0, am_argp 0 [2, 0, 0, 0, 0], [])) && decide (am_argn [2, 0, 0, 0, 0] ≤ 11)) = true := by decide +kernel
set_option maxHeartbeats 150000 in
set_option maxRecDepth 100000 in
theorem h_Model_one : ∀ X Q j v σ, B_Model_one X Q j v σ → am_at GR k_Model_one c_Model_one m_Model_one X Q 86 j v σ := fun X Q => am_sel_all (P := fun j v σ => am_at GR k_Model_one c_Model_one m_Model_one X Q 86 j v σ) (⟨(am_v5_of (fun t x1 x2 x3 x4 σ h => am_tk (fun e => by subst e; exact fun h => h) h)), trivial⟩)
set_option maxRecDepth 100000 in
theorem S_Model_one (l : Launch) (w : AW) : am_S l w GR a_Model_one := am_sound (rt := 3) (cal := k_Model_one) 290 y_Model_one prog_10_method_111_code 11 (Option.none : Option Jvm.ClassFile.FieldType) [2, 0, 0, 0, 0] false { frames := 12, cells := 0, slots := 0, locals := 386 } B_Model_one "LinkHouseModel" c_Model_one m_Model_one 86 ms_Model_one (by decide +kernel) rfl rfl (am_cal (S_Model_object l w) (am_cal (S_Model_site l w) (am_cal (S_Model_num l w) (am_cal (S_Model_siteValue l w) (am_cal (S_Model_info l w) (am_cal (S_Model_group l w) (am_cal (S_Model_segmentOf l w) (am_cal (S_Model_siteAddress l w) (am_cal (S_Model_width l w) (am_cal (S_Model_shortKind l w) (am_cal (S_Model_fillSite l w) (am_cal (S_Model_runsOver l w) (fun _ h => absurd h List.not_mem_nil))))))))))))) s_Model_one h_Model_one
set_option maxRecDepth 100000 in
theorem of_Model_one {Q : Int → AMem → Prop} {x1 x2 x3 x4 : Int} {σ : AMem} (h : ∀ X : Nat → List Int → AMem → Prop, (∀ (x1 x2 x3 x4 : Int) (σ : AMem), B_Model_one_0 X Q x1 x2 x3 x4 σ → X 0 [9790, x1, x2, x3, x4] σ) → X 0 [9790, x1, x2, x3, x4] σ) : T_Model_one [9790, x1, x2, x3, x4] σ Q := fun X hX => h X (fun x1 x2 x3 x4 σ h => hX 0 [9790, x1, x2, x3, x4] σ h)
set_option maxRecDepth 100000 in
theorem iff_Model_one {Q : Int → AMem → Prop} {X : Nat → List Int → AMem → Prop} {x1 x2 x3 x4 : Int} {σ : AMem} : T_Model_one [9790, x1, x2, x3, x4] σ Q ↔ B_Model_one_0 X Q x1 x2 x3 x4 σ := ⟨fun h => h (fun j v σ => B_Model_one X Q j v σ) (fun _ _ _ q => q), fun h _ hX => hX 0 _ _ h⟩
def c_Model_sites : List aE := [(0, 1, .iconst 0, 1, 0, 0, []), (1, 0, .istore_n 2, 1, 0, 0, []), (2, 2, .iload_n 2, 1, 0, 0, []), (3, 0, .aload_n 0, 1, 0, 0, []), (4, 0, .getfield 531, 3, 8, 14, [0, 0, 6203]), (7, 0, .if_icmp .ge 101, 3, 0, 0, []), (10, 0, .aload_n 0, 1, 0, 0, []), (11, 0, .iload_n 2, 1, 0, 0, []), (12, 0, .invokevirtual 503, 3, 236, 8, [9124]), (15, 0, .istore_n 3, 1, 0, 0, []), (16, 0, .iconst 1, 1, 0, 0, []), (17, 0, .istore 4, 2, 0, 0, []), (19, 3, .iload 4, 2, 0, 0, []), (21, 0, .aload_n 0, 1, 0, 0, []), (22, 0, .iload_n 3, 1, 0, 0, []), (23, 0, .invokevirtual 313, 3, 185, 8, [8136]), (26, 0, .if_icmp .ge 76, 3, 0, 0, []), (29, 0, .aload_n 0, 1, 0, 0, []), (30, 0, .iload_n 3, 1, 0, 0, []), (31, 0, .iload 4, 2, 0, 0, []), (33, 0, .invokevirtual 419, 3, 208, 8, [8235]), (36, 0, .ifCond .eq 60, 3, 0, 0, []), (39, 0, .aload_n 0, 1, 0, 0, []), (40, 0, .iload_n 2, 1, 0, 0, []), (41, 0, .aload_n 0, 1, 0, 0, []), (42, 0, .iload_n 3, 1, 0, 0, []), (43, 0, .iload 4, 2, 0, 0, []), (45, 0, .invokevirtual 408, 3, 207, 8, [9000]), (48, 0, .l2i, 1, 0, 0, []), (49, 0, .invokevirtual 591, 3, 255, 8, [9188]), (52, 0, .ifCond .ne 6, 3, 0, 0, []), (55, 0, .goto 41, 3, 0, 0, []), (58, 0, .iconst 0, 1, 0, 0, []), (59, 0, .istore 5, 2, 0, 0, []), (61, 4, .iload 5, 2, 0, 0, []), (63, 0, .aload_n 0, 1, 0, 0, []), (64, 0, .iload_n 3, 1, 0, 0, []), (65, 0, .iload 4, 2, 0, 0, []), (67, 0, .invokevirtual 422, 3, 209, 8, [9004]), (70, 0, .if_icmp .ge 26, 3, 0, 0, []), (73, 0, .aload_n 0, 1, 0, 0, []), (74, 0, .getfield 40, 3, 8, 13, [0, 0, 6202]), (77, 0, .ifCond .ne 19, 3, 0, 0, []), (80, 0, .aload_n 0, 1, 0, 0, []), (81, 0, .iload_n 2, 1, 0, 0, []), (82, 0, .iload 4, 2, 0, 0, []), (84, 0, .iload 5, 2, 0, 0, []), (86, 0, .iload_n 1, 1, 0, 0, []), (87, 0, .invokevirtual 732, 3, 290, 8, [10065]), (90, 0, .iinc 5 1, 3, 0, 0, []), (93, 0, .goto (-32), 3, 0, 0, []), (96, 5, .iinc 4 1, 3, 0, 0, []), (99, 0, .goto (-80), 3, 0, 0, []), (102, 0, .iinc 2 1, 3, 0, 0, []), (105, 0, .goto (-103), 3, 0, 0, []), (108, 0, .return_, 1, 0, 0, [])]
def m_Model_sites : List aT := [(0, [(0, 2), (1, 0)], []), (2, [(0, 2), (1, 0), (2, 0)], []), (19, [(0, 2), (1, 0), (2, 0), (3, 0), (4, 0)], []), (61, [(0, 2), (1, 0), (2, 0), (3, 0), (4, 0), (5, 0)], []), (96, [(0, 2), (1, 0), (2, 0), (3, 0), (4, 0)], [])]
def B_Model_sites_0 (X : Nat → List Int → AMem → Prop) (Q : Int → AMem → Prop) (x1 : Int) (σ : AMem) : Prop :=
  X 1 [9790, x1, 0] σ
def B_Model_sites_1 (X : Nat → List Int → AMem → Prop) (Q : Int → AMem → Prop) (x1 x2 : Int) (σ : AMem) : Prop :=
  (if x2 < (σ 9790 14) then
  T_Model_object [9790, x2] σ (fun r1 σ2 => X 2 [9790, x1, x2, r1, 1] σ2)
  else
  Q 0 σ)
def B_Model_sites_2 (X : Nat → List Int → AMem → Prop) (Q : Int → AMem → Prop) (x1 x2 x3 x4 : Int) (σ : AMem) : Prop :=
  T_Model_sections [9790, x3] σ (fun r1 σ2 => (if x4 < r1 then
  T_Model_isSites [9790, x3, x4] σ2 (fun r3 σ4 => (if r3 = 0 then
    X 4 [9790, x1, x2, x3, x4] σ4
    else
    T_Model_info [9790, x3, x4] σ4 (fun r5 σ6 => T_Model_stays [9790, x2, (w32 r5)] σ6 (fun r7 σ8 => (if r7 = 0 then
      X 4 [9790, x1, x2, x3, x4] σ8
      else
      X 3 [9790, x1, x2, x3, x4, 0] σ8)))))
  else
  am_r32 (x2 + 1) ∧ X 1 [9790, x1, (x2 + 1)] σ2))
def B_Model_sites_3 (X : Nat → List Int → AMem → Prop) (Q : Int → AMem → Prop) (x1 x2 x3 x4 x5 : Int) (σ : AMem) : Prop :=
  T_Model_siteMany [9790, x3, x4] σ (fun r1 σ2 => (if x5 < r1 then
  (if (σ2 9790 13) = 0 then
    T_Model_one [9790, x2, x4, x5, x1] σ2 (fun r3 σ4 => am_r32 (x5 + 1) ∧ X 3 [9790, x1, x2, x3, x4, (x5 + 1)] σ4)
    else
    X 4 [9790, x1, x2, x3, x4] σ2)
  else
  X 4 [9790, x1, x2, x3, x4] σ2))
def B_Model_sites_4 (X : Nat → List Int → AMem → Prop) (Q : Int → AMem → Prop) (x1 x2 x3 x4 : Int) (σ : AMem) : Prop :=
  am_r32 (x4 + 1) ∧ X 2 [9790, x1, x2, x3, (x4 + 1)] σ
def B_Model_sites : (Nat → List Int → AMem → Prop) → (Int → AMem → Prop) → Nat → List Int → AMem → Prop := fun X Q j v σ => am_sel [(am_v2 (fun t x1 σ => if t = 9790 then B_Model_sites_0 X Q x1 σ else False)), (am_v3 (fun t x1 x2 σ => if t = 9790 then B_Model_sites_1 X Q x1 x2 σ else False)), (am_v5 (fun t x1 x2 x3 x4 σ => if t = 9790 then B_Model_sites_2 X Q x1 x2 x3 x4 σ else False)), (am_v6 (fun t x1 x2 x3 x4 x5 σ => if t = 9790 then B_Model_sites_3 X Q x1 x2 x3 x4 x5 σ else False)), (am_v5 (fun t x1 x2 x3 x4 σ => if t = 9790 then B_Model_sites_4 X Q x1 x2 x3 x4 σ else False))] j v σ
def T_Model_sites : List Int → AMem → (Int → AMem → Prop) → Prop := am_T B_Model_sites
abbrev y_Model_sites : MethodName := ⟨"LinkHouseModel", "sites", "(Z)V"⟩
def a_Model_sites : AC := (291, (y_Model_sites, prog_10_method_110_code, 6, (Option.none : Option Jvm.ClassFile.FieldType)), [2, 0], 3, false, { frames := 13, cells := 0, slots := 0, locals := 424 }, T_Model_sites)
set_option maxRecDepth 100000 in
theorem ms_Model_sites : am_MSp a_Model_sites := am_ms_v 10064 9 10063 111005 8 rfl (by decide +kernel)
abbrev k_Model_sites : List AC := [a_Model_object, a_Model_sections, a_Model_isSites, a_Model_info, a_Model_stays, a_Model_siteMany, a_Model_one]
set_option maxRecDepth 100000 in
theorem s_Model_sites : (am_chkR { frames := 13, cells := 0, slots := 0, locals := 424 } k_Model_sites && am_chkN c_Model_sites { frames := 13, cells := 0, slots := 0, locals := 424 } && c_Model_sites.all (am_chk "LinkHouseModel" prog_10_method_110_code 6 (Option.none : Option Jvm.ClassFile.FieldType) k_Model_sites) && c_Model_sites.all (am_chkL m_Model_sites) && decide (m_Model_sites[0]? = some (0, am_argp 0 [2, 0], [])) && decide (am_argn [2, 0] ≤ 6)) = true := by decide +kernel
set_option maxHeartbeats 150000 in
set_option maxRecDepth 100000 in
theorem h_Model_sites : ∀ X Q j v σ, B_Model_sites X Q j v σ → am_at GR k_Model_sites c_Model_sites m_Model_sites X Q 61 j v σ := fun X Q => am_sel_all (P := fun j v σ => am_at GR k_Model_sites c_Model_sites m_Model_sites X Q 61 j v σ) (⟨(am_v2_of (fun t x1 σ h => am_tk (fun e => by subst e; exact fun h => h) h)), ⟨(am_v3_of (fun t x1 x2 σ h => am_tk (fun e => by subst e; exact fun h => h) h)), ⟨(am_v5_of (fun t x1 x2 x3 x4 σ h => am_tk (fun e => by subst e; exact fun h => h) h)), ⟨(am_v6_of (fun t x1 x2 x3 x4 x5 σ h => am_tk (fun e => by subst e; exact fun h => h) h)), ⟨(am_v5_of (fun t x1 x2 x3 x4 σ h => am_tk (fun e => by subst e; exact fun h => h) h)), trivial⟩⟩⟩⟩⟩)
set_option maxRecDepth 100000 in
theorem S_Model_sites (l : Launch) (w : AW) : am_S l w GR a_Model_sites := am_sound (rt := 3) (cal := k_Model_sites) 291 y_Model_sites prog_10_method_110_code 6 (Option.none : Option Jvm.ClassFile.FieldType) [2, 0] false { frames := 13, cells := 0, slots := 0, locals := 424 } B_Model_sites "LinkHouseModel" c_Model_sites m_Model_sites 61 ms_Model_sites (by decide +kernel) rfl rfl (am_cal (S_Model_object l w) (am_cal (S_Model_sections l w) (am_cal (S_Model_isSites l w) (am_cal (S_Model_info l w) (am_cal (S_Model_stays l w) (am_cal (S_Model_siteMany l w) (am_cal (S_Model_one l w) (fun _ h => absurd h List.not_mem_nil)))))))) s_Model_sites h_Model_sites
set_option maxRecDepth 100000 in
theorem of_Model_sites {Q : Int → AMem → Prop} {x1 : Int} {σ : AMem} (h : ∀ X : Nat → List Int → AMem → Prop, (∀ (x1 : Int) (σ : AMem), B_Model_sites_0 X Q x1 σ → X 0 [9790, x1] σ) → (∀ (x1 x2 : Int) (σ : AMem), B_Model_sites_1 X Q x1 x2 σ → X 1 [9790, x1, x2] σ) → (∀ (x1 x2 x3 x4 : Int) (σ : AMem), B_Model_sites_2 X Q x1 x2 x3 x4 σ → X 2 [9790, x1, x2, x3, x4] σ) → (∀ (x1 x2 x3 x4 x5 : Int) (σ : AMem), B_Model_sites_3 X Q x1 x2 x3 x4 x5 σ → X 3 [9790, x1, x2, x3, x4, x5] σ) → (∀ (x1 x2 x3 x4 : Int) (σ : AMem), B_Model_sites_4 X Q x1 x2 x3 x4 σ → X 4 [9790, x1, x2, x3, x4] σ) → X 0 [9790, x1] σ) : T_Model_sites [9790, x1] σ Q := fun X hX => h X (fun x1 σ h => hX 0 [9790, x1] σ h) (fun x1 x2 σ h => hX 1 [9790, x1, x2] σ h) (fun x1 x2 x3 x4 σ h => hX 2 [9790, x1, x2, x3, x4] σ h) (fun x1 x2 x3 x4 x5 σ h => hX 3 [9790, x1, x2, x3, x4, x5] σ h) (fun x1 x2 x3 x4 σ h => hX 4 [9790, x1, x2, x3, x4] σ h)
