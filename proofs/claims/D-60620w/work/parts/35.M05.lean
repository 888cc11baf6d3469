/-! methods: printed by gen/all.py -/
def c_Model_reachSection : List aE := [(0, 1, .iload_n 2, 1, 0, 0, []), (1, 0, .ifCond .le 57, 3, 0, 0, []), (4, 0, .iload_n 2, 1, 0, 0, []), (5, 0, .aload_n 0, 1, 0, 0, []), (6, 0, .aload_n 0, 1, 0, 0, []), (7, 0, .iload_n 1, 1, 0, 0, []), (8, 0, .invokevirtual 503, 3, 236, 8, [9124]), (11, 0, .invokevirtual 313, 3, 185, 8, [8136]), (14, 0, .if_icmp .ge 44, 3, 0, 0, []), (17, 0, .aload_n 0, 1, 0, 0, []), (18, 0, .aload_n 0, 1, 0, 0, []), (19, 0, .iload_n 1, 1, 0, 0, []), (20, 0, .invokevirtual 503, 3, 236, 8, [9124]), (23, 0, .iload_n 2, 1, 0, 0, []), (24, 0, .invokevirtual 347, 3, 192, 8, [8164]), (27, 0, .ifCond .eq 31, 3, 0, 0, []), (30, 0, .aload_n 0, 1, 0, 0, []), (31, 0, .getfield 166, 3, 8, 65, [2, 0, 7014]), (34, 0, .bipush 24, 2, 0, 0, []), (36, 0, .iload_n 1, 1, 0, 0, []), (37, 0, .imul, 1, 0, 0, []), (38, 0, .iload_n 2, 1, 0, 0, []), (39, 0, .iadd, 1, 0, 0, []), (40, 0, .baload, 1, 3, 0, []), (41, 0, .ifCond .ne 17, 3, 0, 0, []), (44, 0, .aload_n 0, 1, 0, 0, []), (45, 0, .getfield 169, 3, 8, 66, [2, 0, 7015]), (48, 0, .bipush 24, 2, 0, 0, []), (50, 0, .iload_n 1, 1, 0, 0, []), (51, 0, .imul, 1, 0, 0, []), (52, 0, .iload_n 2, 1, 0, 0, []), (53, 0, .iadd, 1, 0, 0, []), (54, 0, .baload, 1, 3, 0, []), (55, 0, .ifCond .eq 4, 3, 0, 0, []), (58, 0, .return_, 1, 0, 0, []), (59, 0, .aload_n 0, 1, 0, 0, []), (60, 0, .getfield 169, 3, 8, 66, [2, 0, 7015]), (63, 0, .bipush 24, 2, 0, 0, []), (65, 0, .iload_n 1, 1, 0, 0, []), (66, 0, .imul, 1, 0, 0, []), (67, 0, .iload_n 2, 1, 0, 0, []), (68, 0, .iadd, 1, 0, 0, []), (69, 0, .iconst 1, 1, 0, 0, []), (70, 0, .bastore, 1, 3, 0, []), (71, 0, .aload_n 0, 1, 0, 0, []), (72, 0, .iconst 1, 1, 0, 0, []), (73, 0, .putfield 557, 3, 8, 98, [0, 1, 7047]), (76, 0, .return_, 1, 0, 0, [])]
def m_Model_reachSection : List aT := [(0, [(0, 2), (1, 0), (2, 0)], [])]
def B_Model_reachSection_0 (X : Nat → List Int → AMem → Prop) (Q : Int → AMem → Prop) (x1 x2 : Int) (σ : AMem) : Prop :=
  (if 0 < x2 then
  T_Model_object [9790, x1] σ (fun r1 σ2 => T_Model_sections [9790, r1] σ2 (fun r3 σ4 => (if x2 < r3 then
    T_Model_object [9790, x1] σ4 (fun r5 σ6 => T_Model_isKept [9790, r5, x2] σ6 (fun r7 σ8 => (if r7 = 0 then
      Q 0 σ8
      else
      am_r32 (24 * x1) ∧ am_r32 ((24 * x1) + x2) ∧ 0 ≤ ((24 * x1) + x2) ∧ ((24 * x1) + x2) < 1536 ∧ (if (σ8 9840 ((24 * x1) + x2)) = 0 then
        am_r32 (24 * x1) ∧ am_r32 ((24 * x1) + x2) ∧ 0 ≤ ((24 * x1) + x2) ∧ ((24 * x1) + x2) < 1536 ∧ (if (σ8 9841 ((24 * x1) + x2)) = 0 then
          am_r32 (24 * x1) ∧ am_r32 ((24 * x1) + x2) ∧ 0 ≤ ((24 * x1) + x2) ∧ ((24 * x1) + x2) < 1536 ∧ am_let (am_upd σ8 9841 ((24 * x1) + x2) 1) (fun σ9 => am_let (am_upd σ9 9790 98 1) (fun σ10 => Q 0 σ10))
          else
          Q 0 σ8)
        else
        Q 0 σ8))))
    else
    Q 0 σ4)))
  else
  Q 0 σ)
def B_Model_reachSection : (Nat → List Int → AMem → Prop) → (Int → AMem → Prop) → Nat → List Int → AMem → Prop := fun X Q j v σ => am_sel [(am_v3 (fun t x1 x2 σ => if t = 9790 then B_Model_reachSection_0 X Q x1 x2 σ else False))] j v σ
def T_Model_reachSection : List Int → AMem → (Int → AMem → Prop) → Prop := am_T B_Model_reachSection
abbrev y_Model_reachSection : MethodName := ⟨"LinkHouseModel", "reachSection", "(II)V"⟩
def a_Model_reachSection : AC := (251, (y_Model_reachSection, prog_10_method_73_code, 3, (Option.none : Option Jvm.ClassFile.FieldType)), [2, 0, 0], 3, false, { frames := 4, cells := 0, slots := 0, locals := 123 }, T_Model_reachSection)
set_option maxRecDepth 100000 in
theorem ms_Model_reachSection : am_MSp a_Model_reachSection := am_ms_v 9179 9 9178 109009 8 rfl (by decide +kernel)
abbrev k_Model_reachSection : List AC := [a_Model_object, a_Model_sections, a_Model_isKept]
set_option maxRecDepth 100000 in
theorem s_Model_reachSection : (am_chkR { frames := 4, cells := 0, slots := 0, locals := 123 } k_Model_reachSection && am_chkN c_Model_reachSection { frames := 4, cells := 0, slots := 0, locals := 123 } && c_Model_reachSection.all (am_chk "LinkHouseModel" prog_10_method_73_code 3 (Option.none : Option Jvm.ClassFile.FieldType) k_Model_reachSection) && c_Model_reachSection.all (am_chkL m_Model_reachSection) && decide (m_Model_reachSection[0]? = some (0, am_argp 0 [2, 0, 0], [])) && decide (am_argn [2, 0, 0] ≤ 3)) = true := by decide +kernel
set_option maxHeartbeats 150000 in
set_option maxRecDepth 100000 in
theorem h_Model_reachSection : ∀ X Q j v σ, B_Model_reachSection X Q j v σ → am_at GR k_Model_reachSection c_Model_reachSection m_Model_reachSection X Q 53 j v σ := fun X Q => am_sel_all (P := fun j v σ => am_at GR k_Model_reachSection c_Model_reachSection m_Model_reachSection X Q 53 j v σ) (⟨(am_v3_of (fun t x1 x2 σ h => am_tk (fun e => by subst e; exact fun h => h) h)), trivial⟩)
set_option maxRecDepth 100000 in
theorem S_Model_reachSection (l : Launch) (w : AW) : am_S l w GR a_Model_reachSection := am_sound (rt := 3) (cal := k_Model_reachSection) 251 y_Model_reachSection prog_10_method_73_code 3 (Option.none : Option Jvm.ClassFile.FieldType) [2, 0, 0] false { frames := 4, cells := 0, slots := 0, locals := 123 } B_Model_reachSection "LinkHouseModel" c_Model_reachSection m_Model_reachSection 53 ms_Model_reachSection (by decide +kernel) rfl rfl (am_cal (S_Model_object l w) (am_cal (S_Model_sections l w) (am_cal (S_Model_isKept l w) (fun _ h => absurd h List.not_mem_nil)))) s_Model_reachSection h_Model_reachSection
set_option maxRecDepth 100000 in
theorem of_Model_reachSection {Q : Int → AMem → Prop} {x1 x2 : Int} {σ : AMem} (h : ∀ X : Nat → List Int → AMem → Prop, (∀ (x1 x2 : Int) (σ : AMem), B_Model_reachSection_0 X Q x1 x2 σ → X 0 [9790, x1, x2] σ) → X 0 [9790, x1, x2] σ) : T_Model_reachSection [9790, x1, x2] σ Q := fun X hX => h X (fun x1 x2 σ h => hX 0 [9790, x1, x2] σ h)
set_option maxRecDepth 100000 in
theorem iff_Model_reachSection {Q : Int → AMem → Prop} {X : Nat → List Int → AMem → Prop} {x1 x2 : Int} {σ : AMem} : T_Model_reachSection [9790, x1, x2] σ Q ↔ B_Model_reachSection_0 X Q x1 x2 σ := ⟨fun h => h (fun j v σ => B_Model_reachSection X Q j v σ) (fun _ _ _ q => q), fun h _ hX => hX 0 _ _ h⟩
def c_Model_reachName : List aE := [(0, 1, .aload_n 0, 1, 0, 0, []), (1, 0, .getfield 60, 3, 8, 23, [2, 0, 6212]), (4, 0, .iload_n 1, 1, 0, 0, []), (5, 0, .iaload, 1, 0, 0, []), (6, 0, .iconst 2, 1, 0, 0, []), (7, 0, .if_icmp .ne 10, 3, 0, 0, []), (10, 0, .aload_n 0, 1, 0, 0, []), (11, 0, .getfield 172, 3, 8, 67, [2, 0, 7016]), (14, 0, .iload_n 1, 1, 0, 0, []), (15, 0, .iconst 1, 1, 0, 0, []), (16, 0, .bastore, 1, 3, 0, []), (17, 2, .aload_n 0, 1, 0, 0, []), (18, 0, .getfield 60, 3, 8, 23, [2, 0, 6212]), (21, 0, .iload_n 1, 1, 0, 0, []), (22, 0, .iaload, 1, 0, 0, []), (23, 0, .iconst 1, 1, 0, 0, []), (24, 0, .if_icmp .eq 21, 3, 0, 0, []), (27, 0, .aload_n 0, 1, 0, 0, []), (28, 0, .getfield 60, 3, 8, 23, [2, 0, 6212]), (31, 0, .iload_n 1, 1, 0, 0, []), (32, 0, .iaload, 1, 0, 0, []), (33, 0, .iconst 3, 1, 0, 0, []), (34, 0, .if_icmp .ne 37, 3, 0, 0, []), (37, 0, .aload_n 0, 1, 0, 0, []), (38, 0, .iload_n 1, 1, 0, 0, []), (39, 0, .invokevirtual 560, 3, 250, 8, [9172]), (42, 0, .ifCond .ne 29, 3, 0, 0, []), (45, 3, .aload_n 0, 1, 0, 0, []), (46, 0, .aload_n 0, 1, 0, 0, []), (47, 0, .getfield 63, 3, 8, 24, [2, 0, 6213]), (50, 0, .iload_n 1, 1, 0, 0, []), (51, 0, .iaload, 1, 0, 0, []), (52, 0, .aload_n 0, 1, 0, 0, []), (53, 0, .aload_n 0, 1, 0, 0, []), (54, 0, .getfield 63, 3, 8, 24, [2, 0, 6213]), (57, 0, .iload_n 1, 1, 0, 0, []), (58, 0, .iaload, 1, 0, 0, []), (59, 0, .aload_n 0, 1, 0, 0, []), (60, 0, .getfield 66, 3, 8, 25, [2, 0, 6214]), (63, 0, .iload_n 1, 1, 0, 0, []), (64, 0, .iaload, 1, 0, 0, []), (65, 0, .invokevirtual 506, 3, 240, 8, [9144]), (68, 0, .invokevirtual 563, 3, 251, 8, [9176]), (71, 0, .return_, 1, 0, 0, [])]
def m_Model_reachName : List aT := [(0, [(0, 2), (1, 0)], []), (17, [(0, 2), (1, 0)], []), (45, [(0, 2), (1, 0)], [])]
def B_Model_reachName_0 (X : Nat → List Int → AMem → Prop) (Q : Int → AMem → Prop) (x1 : Int) (σ : AMem) : Prop :=
  0 ≤ x1 ∧ x1 < 4096 ∧ (if (σ 9805 x1) = 2 then
  0 ≤ x1 ∧ x1 < 4096 ∧ am_let (am_upd σ 9842 x1 1) (fun σ1 => X 1 [9790, x1] σ1)
  else
  X 1 [9790, x1] σ)
def B_Model_reachName_1 (X : Nat → List Int → AMem → Prop) (Q : Int → AMem → Prop) (x1 : Int) (σ : AMem) : Prop :=
  0 ≤ x1 ∧ x1 < 4096 ∧ (if (σ 9805 x1) = 1 then
  X 2 [9790, x1] σ
  else
  0 ≤ x1 ∧ x1 < 4096 ∧ (if (σ 9805 x1) = 3 then
    T_Model_isGiven [9790, x1] σ (fun r1 σ2 => (if r1 = 0 then
      X 2 [9790, x1] σ2
      else
      Q 0 σ2))
    else
    Q 0 σ))
def B_Model_reachName_2 (X : Nat → List Int → AMem → Prop) (Q : Int → AMem → Prop) (x1 : Int) (σ : AMem) : Prop :=
  0 ≤ x1 ∧ x1 < 4096 ∧ 0 ≤ x1 ∧ x1 < 4096 ∧ 0 ≤ x1 ∧ x1 < 4096 ∧ T_Model_whereNow [9790, (σ 9806 x1), (σ 9807 x1)] σ (fun r1 σ2 => T_Model_reachSection [9790, (σ 9806 x1), r1] σ2 (fun r3 σ4 => Q 0 σ4))
def B_Model_reachName : (Nat → List Int → AMem → Prop) → (Int → AMem → Prop) → Nat → List Int → AMem → Prop := fun X Q j v σ => am_sel [(am_v2 (fun t x1 σ => if t = 9790 then B_Model_reachName_0 X Q x1 σ else False)), (am_v2 (fun t x1 σ => if t = 9790 then B_Model_reachName_1 X Q x1 σ else False)), (am_v2 (fun t x1 σ => if t = 9790 then B_Model_reachName_2 X Q x1 σ else False))] j v σ
def T_Model_reachName : List Int → AMem → (Int → AMem → Prop) → Prop := am_T B_Model_reachName
abbrev y_Model_reachName : MethodName := ⟨"LinkHouseModel", "reachName", "(I)V"⟩
def a_Model_reachName : AC := (252, (y_Model_reachName, prog_10_method_74_code, 2, (Option.none : Option Jvm.ClassFile.FieldType)), [2, 0], 3, false, { frames := 7, cells := 0, slots := 0, locals := 214 }, T_Model_reachName)
set_option maxRecDepth 100000 in
theorem ms_Model_reachName : am_MSp a_Model_reachName := am_ms_v 9171 9 9170 109007 8 rfl (by decide +kernel)
abbrev k_Model_reachName : List AC := [a_Model_isGiven, a_Model_whereNow, a_Model_reachSection]
set_option maxRecDepth 100000 in
theorem s_Model_reachName : (am_chkR { frames := 7, cells := 0, slots := 0, locals := 214 } k_Model_reachName && am_chkN c_Model_reachName { frames := 7, cells := 0, slots := 0, locals := 214 } && c_Model_reachName.all (am_chk "LinkHouseModel" prog_10_method_74_code 2 (Option.none : Option Jvm.ClassFile.FieldType) k_Model_reachName) && c_Model_reachName.all (am_chkL m_Model_reachName) && decide (m_Model_reachName[0]? = some (0, am_argp 0 [2, 0], [])) && decide (am_argn [2, 0] ≤ 2)) = true := by decide +kernel
set_option maxHeartbeats 150000 in
set_option maxRecDepth 100000 in
theorem h_Model_reachName : ∀ X Q j v σ, B_Model_reachName X Q j v σ → am_at GR k_Model_reachName c_Model_reachName m_Model_reachName X Q 49 j v σ := fun X Q => am_sel_all (P := fun j v σ => am_at GR k_Model_reachName c_Model_reachName m_Model_reachName X Q 49 j v σ) (⟨(am_v2_of (fun t x1 σ h => am_tk (fun e => by subst e; exact fun h => h) h)), ⟨(am_v2_of (fun t x1 σ h => am_tk (fun e => by subst e; exact fun h => h) h)), ⟨(am_v2_of (fun t x1 σ h => am_tk (fun e => by subst e; exact fun h => h) h)), trivial⟩⟩⟩)
set_option maxRecDepth 100000 in
theorem S_Model_reachName (l : Launch) (w : AW) : am_S l w GR a_Model_reachName := am_sound (rt := 3) (cal := k_Model_reachName) 252 y_Model_reachName prog_10_method_74_code 2 (Option.none : Option Jvm.ClassFile.FieldType) [2, 0] false { frames := 7, cells := 0, slots := 0, locals := 214 } B_Model_reachName "LinkHouseModel" c_Model_reachName m_Model_reachName 49 ms_Model_reachName (by decide +kernel) rfl rfl (am_cal (S_Model_isGiven l w) (am_cal (S_Model_whereNow l w) (am_cal (S_Model_reachSection l w) (fun _ h => absurd h List.not_mem_nil)))) s_Model_reachName h_Model_reachName
set_option maxRecDepth 100000 in
theorem of_Model_reachName {Q : Int → AMem → Prop} {x1 : Int} {σ : AMem} (h : ∀ X : Nat → List Int → AMem → Prop, (∀ (x1 : Int) (σ : AMem), B_Model_reachName_0 X Q x1 σ → X 0 [9790, x1] σ) → (∀ (x1 : Int) (σ : AMem), B_Model_reachName_1 X Q x1 σ → X 1 [9790, x1] σ) → (∀ (x1 : Int) (σ : AMem), B_Model_reachName_2 X Q x1 σ → X 2 [9790, x1] σ) → X 0 [9790, x1] σ) : T_Model_reachName [9790, x1] σ Q := fun X hX => h X (fun x1 σ h => hX 0 [9790, x1] σ h) (fun x1 σ h => hX 1 [9790, x1] σ h) (fun x1 σ h => hX 2 [9790, x1] σ h)
def c_Model_reachSites : List aE := [(0, 1, .aload_n 0, 1, 0, 0, []), (1, 0, .iload_n 1, 1, 0, 0, []), (2, 0, .invokevirtual 503, 3, 236, 8, [9124]), (5, 0, .istore_n 2, 1, 0, 0, []), (6, 0, .iconst 1, 1, 0, 0, []), (7, 0, .istore_n 3, 1, 0, 0, []), (8, 2, .iload_n 3, 1, 0, 0, []), (9, 0, .aload_n 0, 1, 0, 0, []), (10, 0, .iload_n 2, 1, 0, 0, []), (11, 0, .invokevirtual 313, 3, 185, 8, [8136]), (14, 0, .if_icmp .ge 145, 3, 0, 0, []), (17, 0, .aload_n 0, 1, 0, 0, []), (18, 0, .iload_n 2, 1, 0, 0, []), (19, 0, .iload_n 3, 1, 0, 0, []), (20, 0, .invokevirtual 419, 3, 208, 8, [8235]), (23, 0, .ifCond .eq 130, 3, 0, 0, []), (26, 0, .aload_n 0, 1, 0, 0, []), (27, 0, .getfield 169, 3, 8, 66, [2, 0, 7015]), (30, 0, .bipush 24, 2, 0, 0, []), (32, 0, .iload_n 1, 1, 0, 0, []), (33, 0, .imul, 1, 0, 0, []), (34, 0, .aload_n 0, 1, 0, 0, []), (35, 0, .iload_n 2, 1, 0, 0, []), (36, 0, .iload_n 3, 1, 0, 0, []), (37, 0, .invokevirtual 408, 3, 207, 8, [9000]), (40, 0, .l2i, 1, 0, 0, []), (41, 0, .iadd, 1, 0, 0, []), (42, 0, .baload, 1, 3, 0, []), (43, 0, .ifCond .ne 6, 3, 0, 0, []), (46, 0, .goto 107, 3, 0, 0, []), (49, 0, .iconst 0, 1, 0, 0, []), (50, 0, .istore 4, 2, 0, 0, []), (52, 3, .iload 4, 2, 0, 0, []), (54, 0, .aload_n 0, 1, 0, 0, []), (55, 0, .iload_n 2, 1, 0, 0, []), (56, 0, .iload_n 3, 1, 0, 0, []), (57, 0, .invokevirtual 422, 3, 209, 8, [9004]), (60, 0, .if_icmp .ge 93, 3, 0, 0, []), (63, 0, .aload_n 0, 1, 0, 0, []), (64, 0, .aload_n 0, 1, 0, 0, []), (65, 0, .iload_n 2, 1, 0, 0, []), (66, 0, .iload_n 3, 1, 0, 0, []), (67, 0, .iload 4, 2, 0, 0, []), (69, 0, .invokevirtual 411, 3, 210, 8, [9012]), (72, 0, .bipush 12, 2, 0, 0, []), (74, 0, .iadd, 1, 0, 0, []), (75, 0, .iconst 4, 1, 0, 0, []), (76, 0, .invokevirtual 291, 3, 183, 8, [8120]), (79, 0, .l2i, 1, 0, 0, []), (80, 0, .istore 5, 2, 0, 0, []), (82, 0, .aload_n 0, 1, 0, 0, []), (83, 0, .aload_n 0, 1, 0, 0, []), (84, 0, .iload_n 2, 1, 0, 0, []), (85, 0, .iload_n 3, 1, 0, 0, []), (86, 0, .iload 4, 2, 0, 0, []), (88, 0, .invokevirtual 411, 3, 210, 8, [9012]), (91, 0, .bipush 8, 2, 0, 0, []), (93, 0, .iadd, 1, 0, 0, []), (94, 0, .iconst 4, 1, 0, 0, []), (95, 0, .invokevirtual 291, 3, 183, 8, [8120]), (98, 0, .lconst 0, 1, 0, 0, []), (99, 0, .lcmp, 1, 0, 0, []), (100, 0, .ifCond .eq 47, 3, 0, 0, []), (103, 0, .iload 5, 2, 0, 0, []), (105, 0, .ifCond .ne 6, 3, 0, 0, []), (108, 0, .goto 39, 3, 0, 0, []), (111, 0, .aload_n 0, 1, 0, 0, []), (112, 0, .iload_n 2, 1, 0, 0, []), (113, 0, .iload 5, 2, 0, 0, []), (115, 0, .invokevirtual 375, 3, 201, 8, [8213]), (118, 0, .ifCond .ne 18, 3, 0, 0, []), (121, 0, .aload_n 0, 1, 0, 0, []), (122, 0, .iload_n 1, 1, 0, 0, []), (123, 0, .aload_n 0, 1, 0, 0, []), (124, 0, .iload_n 1, 1, 0, 0, []), (125, 0, .iload 5, 2, 0, 0, []), (127, 0, .invokevirtual 506, 3, 240, 8, [9144]), (130, 0, .invokevirtual 563, 3, 251, 8, [9176]), (133, 0, .goto 14, 3, 0, 0, []), (136, 0, .aload_n 0, 1, 0, 0, []), (137, 0, .aload_n 0, 1, 0, 0, []), (138, 0, .iload_n 2, 1, 0, 0, []), (139, 0, .iload 5, 2, 0, 0, []), (141, 0, .invokevirtual 541, 3, 234, 8, [9104]), (144, 0, .invokevirtual 567, 3, 252, 8, [9168]), (147, 4, .iinc 4 1, 3, 0, 0, []), (150, 0, .goto (-98), 3, 0, 0, []), (153, 5, .iinc 3 1, 3, 0, 0, []), (156, 0, .goto (-148), 3, 0, 0, []), (159, 0, .return_, 1, 0, 0, [])]
def m_Model_reachSites : List aT := [(0, [(0, 2), (1, 0)], []), (8, [(0, 2), (1, 0), (2, 0), (3, 0)], []), (52, [(0, 2), (1, 0), (2, 0), (3, 0), (4, 0)], []), (147, [(0, 2), (1, 0), (2, 0), (3, 0), (4, 0)], []), (153, [(0, 2), (1, 0), (2, 0), (3, 0)], [])]
def B_Model_reachSites_0 (X : Nat → List Int → AMem → Prop) (Q : Int → AMem → Prop) (x1 : Int) (σ : AMem) : Prop :=
  T_Model_object [9790, x1] σ (fun r1 σ2 => X 1 [9790, x1, r1, 1] σ2)
def B_Model_reachSites_1 (X : Nat → List Int → AMem → Prop) (Q : Int → AMem → Prop) (x1 x2 x3 : Int) (σ : AMem) : Prop :=
  T_Model_sections [9790, x2] σ (fun r1 σ2 => (if x3 < r1 then
  T_Model_isSites [9790, x2, x3] σ2 (fun r3 σ4 => (if r3 = 0 then
    X 4 [9790, x1, x2, x3] σ4
    else
    am_r32 (24 * x1) ∧ T_Model_info [9790, x2, x3] σ4 (fun r5 σ6 => am_r32 ((24 * x1) + (w32 r5)) ∧ 0 ≤ ((24 * x1) + (w32 r5)) ∧ ((24 * x1) + (w32 r5)) < 1536 ∧ (if (σ6 9841 ((24 * x1) + (w32 r5))) = 0 then
      X 4 [9790, x1, x2, x3] σ6
      else
      X 2 [9790, x1, x2, x3, 0] σ6))))
  else
  Q 0 σ2))
def B_Model_reachSites_2 (X : Nat → List Int → AMem → Prop) (Q : Int → AMem → Prop) (x1 x2 x3 x4 : Int) (σ : AMem) : Prop :=
  T_Model_siteMany [9790, x2, x3] σ (fun r1 σ2 => (if x4 < r1 then
  T_Model_site [9790, x2, x3, x4] σ2 (fun r3 σ4 => am_r32 (r3 + 12) ∧ T_Model_num [9790, (r3 + 12), 4] σ4 (fun r5 σ6 => T_Model_site [9790, x2, x3, x4] σ6 (fun r7 σ8 => am_r32 (r7 + 8) ∧ T_Model_num [9790, (r7 + 8), 4] σ8 (fun r9 σ10 => (if r9 = 0 then
    X 3 [9790, x1, x2, x3, x4] σ10
    else
    (if (w32 r5) = 0 then
      X 3 [9790, x1, x2, x3, x4] σ10
      else
      T_Model_bind [9790, x2, (w32 r5)] σ10 (fun r11 σ12 => (if r11 = 0 then
        T_Model_whereNow [9790, x1, (w32 r5)] σ12 (fun r17 σ18 => T_Model_reachSection [9790, x1, r17] σ18 (fun r19 σ20 => X 3 [9790, x1, x2, x3, x4] σ20))
        else
        T_Model_nameOf [9790, x2, (w32 r5)] σ12 (fun r13 σ14 => T_Model_reachName [9790, r13] σ14 (fun r15 σ16 => X 3 [9790, x1, x2, x3, x4] σ16))))))))))
  else
  X 4 [9790, x1, x2, x3] σ2))
def B_Model_reachSites_3 (X : Nat → List Int → AMem → Prop) (Q : Int → AMem → Prop) (x1 x2 x3 x4 : Int) (σ : AMem) : Prop :=
  am_r32 (x4 + 1) ∧ X 2 [9790, x1, x2, x3, (x4 + 1)] σ
def B_Model_reachSites_4 (X : Nat → List Int → AMem → Prop) (Q : Int → AMem → Prop) (x1 x2 x3 : Int) (σ : AMem) : Prop :=
  am_r32 (x3 + 1) ∧ X 1 [9790, x1, x2, (x3 + 1)] σ
def B_Model_reachSites : (Nat → List Int → AMem → Prop) → (Int → AMem → Prop) → Nat → List Int → AMem → Prop := fun X Q j v σ => am_sel [(am_v2 (fun t x1 σ => if t = 9790 then B_Model_reachSites_0 X Q x1 σ else False)), (am_v4 (fun t x1 x2 x3 σ => if t = 9790 then B_Model_reachSites_1 X Q x1 x2 x3 σ else False)), (am_v5 (fun t x1 x2 x3 x4 σ => if t = 9790 then B_Model_reachSites_2 X Q x1 x2 x3 x4 σ else False)), (am_v5 (fun t x1 x2 x3 x4 σ => if t = 9790 then B_Model_reachSites_3 X Q x1 x2 x3 x4 σ else False)), (am_v4 (fun t x1 x2 x3 σ => if t = 9790 then B_Model_reachSites_4 X Q x1 x2 x3 σ else False))] j v σ
def T_Model_reachSites : List Int → AMem → (Int → AMem → Prop) → Prop := am_T B_Model_reachSites
abbrev y_Model_reachSites : MethodName := ⟨"LinkHouseModel", "reachSites", "(I)V"⟩
def a_Model_reachSites : AC := (253, (y_Model_reachSites, prog_10_method_75_code, 6, (Option.none : Option Jvm.ClassFile.FieldType)), [2, 0], 3, false, { frames := 8, cells := 0, slots := 0, locals := 244 }, T_Model_reachSites)
set_option maxRecDepth 100000 in
theorem ms_Model_reachSites : am_MSp a_Model_reachSites := am_ms_v 9183 9 9182 109010 8 rfl (by decide +kernel)
abbrev k_Model_reachSites : List AC := [a_Model_object, a_Model_sections, a_Model_isSites, a_Model_info, a_Model_siteMany, a_Model_site, a_Model_num, a_Model_bind, a_Model_whereNow, a_Model_reachSection, a_Model_nameOf, a_Model_reachName]
set_option maxRecDepth 100000 in
theorem s_Model_reachSites : (am_chkR { frames := 8, cells := 0, slots := 0, locals := 244 } k_Model_reachSites && am_chkN c_Model_reachSites { frames := 8, cells := 0, slots := 0, locals := 244 } && c_Model_reachSites.all (am_chk "LinkHouseModel" prog_10_method_75_code 6 (Option.none : Option Jvm.ClassFile.FieldType) k_Model_reachSites) && c_Model_reachSites.all (am_chkL m_Model_reachSites) && decide (m_Model_reachSites[0]? = some (0, am_argp 0 [2, 0], [])) && decide (am_argn [2, 0] ≤ 6)) = true := by decide +kernel
set_option maxHeartbeats 150000 in
set_option maxRecDepth 100000 in
theorem h_Model_reachSites : ∀ X Q j v σ, B_Model_reachSites X Q j v σ → am_at GR k_Model_reachSites c_Model_reachSites m_Model_reachSites X Q 95 j v σ := fun X Q => am_sel_all (P := fun j v σ => am_at GR k_Model_reachSites c_Model_reachSites m_Model_reachSites X Q 95 j v σ) (⟨(am_v2_of (fun t x1 σ h => am_tk (fun e => by subst e; exact fun h => h) h)), ⟨(am_v4_of (fun t x1 x2 x3 σ h => am_tk (fun e => by subst e; exact fun h => h) h)), ⟨(am_v5_of (fun t x1 x2 x3 x4 σ h => am_tk (fun e => by subst e; exact fun h => h) h)), ⟨(am_v5_of (fun t x1 x2 x3 x4 σ h => am_tk (fun e => by subst e; exact fun h => h) h)), ⟨(am_v4_of (fun t x1 x2 x3 σ h => am_tk (fun e => by subst e; exact fun h => h) h)), trivial⟩⟩⟩⟩⟩)
set_option maxRecDepth 100000 in
theorem S_Model_reachSites (l : Launch) (w : AW) : am_S l w GR a_Model_reachSites := am_sound (rt := 3) (cal := k_Model_reachSites) 253 y_Model_reachSites prog_10_method_75_code 6 (Option.none : Option Jvm.ClassFile.FieldType) [2, 0] false { frames := 8, cells := 0, slots := 0, locals := 244 } B_Model_reachSites "LinkHouseModel" c_Model_reachSites m_Model_reachSites 95 ms_Model_reachSites (by decide +kernel) rfl rfl (am_cal (S_Model_object l w) (am_cal (S_Model_sections l w) (am_cal (S_Model_isSites l w) (am_cal (S_Model_info l w) (am_cal (S_Model_siteMany l w) (am_cal (S_Model_site l w) (am_cal (S_Model_num l w) (am_cal (S_Model_bind l w) (am_cal (S_Model_whereNow l w) (am_cal (S_Model_reachSection l w) (am_cal (S_Model_nameOf l w) (am_cal (S_Model_reachName l w) (fun _ h => absurd h List.not_mem_nil))))))))))))) s_Model_reachSites h_Model_reachSites
set_option maxRecDepth 100000 in
theorem of_Model_reachSites {Q : Int → AMem → Prop} {x1 : Int} {σ : AMem} (h : ∀ X : Nat → List Int → AMem → Prop, (∀ (x1 : Int) (σ : AMem), B_Model_reachSites_0 X Q x1 σ → X 0 [9790, x1] σ) → (∀ (x1 x2 x3 : Int) (σ : AMem), B_Model_reachSites_1 X Q x1 x2 x3 σ → X 1 [9790, x1, x2, x3] σ) → (∀ (x1 x2 x3 x4 : Int) (σ : AMem), B_Model_reachSites_2 X Q x1 x2 x3 x4 σ → X 2 [9790, x1, x2, x3, x4] σ) → (∀ (x1 x2 x3 x4 : Int) (σ : AMem), B_Model_reachSites_3 X Q x1 x2 x3 x4 σ → X 3 [9790, x1, x2, x3, x4] σ) → (∀ (x1 x2 x3 : Int) (σ : AMem), B_Model_reachSites_4 X Q x1 x2 x3 σ → X 4 [9790, x1, x2, x3] σ) → X 0 [9790, x1] σ) : T_Model_reachSites [9790, x1] σ Q := fun X hX => h X (fun x1 σ h => hX 0 [9790, x1] σ h) (fun x1 x2 x3 σ h => hX 1 [9790, x1, x2, x3] σ h) (fun x1 x2 x3 x4 σ h => hX 2 [9790, x1, x2, x3, x4] σ h) (fun x1 x2 x3 x4 σ h => hX 3 [9790, x1, x2, x3, x4] σ h) (fun x1 x2 x3 σ h => hX 4 [9790, x1, x2, x3] σ h)
def c_Model_reach : List aE := [(0, 1, .iconst 0, 1, 0, 0, []), (1, 0, .istore_n 1, 1, 0, 0, []), (2, 2, .iload_n 1, 1, 0, 0, []), (3, 0, .sipush 1536, 3, 0, 0, []), (6, 0, .if_icmp .ge 16, 3, 0, 0, []), (9, 0, .aload_n 0, 1, 0, 0, []), (10, 0, .getfield 169, 3, 8, 66, [2, 0, 7015]), (13, 0, .iload_n 1, 1, 0, 0, []), (14, 0, .iconst 0, 1, 0, 0, []), (15, 0, .bastore, 1, 3, 0, []), (16, 0, .iinc 1 1, 3, 0, 0, []), (19, 0, .goto (-17), 3, 0, 0, []), (22, 0, .iconst 0, 1, 0, 0, []), (23, 0, .istore_n 1, 1, 0, 0, []), (24, 3, .iload_n 1, 1, 0, 0, []), (25, 0, .aload_n 0, 1, 0, 0, []), (26, 0, .getfield 473, 3, 8, 20, [0, 0, 6209]), (29, 0, .if_icmp .ge 16, 3, 0, 0, []), (32, 0, .aload_n 0, 1, 0, 0, []), (33, 0, .getfield 172, 3, 8, 67, [2, 0, 7016]), (36, 0, .iload_n 1, 1, 0, 0, []), (37, 0, .iconst 0, 1, 0, 0, []), (38, 0, .bastore, 1, 3, 0, []), (39, 0, .iinc 1 1, 3, 0, 0, []), (42, 0, .goto (-18), 3, 0, 0, []), (45, 0, .aload_n 0, 1, 0, 0, []), (46, 0, .invokevirtual 570, 3, 248, 8, [9160]), (49, 0, .istore_n 1, 1, 0, 0, []), (50, 0, .aload_n 0, 1, 0, 0, []), (51, 0, .iload_n 1, 1, 0, 0, []), (52, 0, .invokevirtual 567, 3, 252, 8, [9168]), (55, 0, .aload_n 0, 1, 0, 0, []), (56, 0, .iconst 1, 1, 0, 0, []), (57, 0, .putfield 557, 3, 8, 98, [0, 1, 7047]), (60, 4, .aload_n 0, 1, 0, 0, []), (61, 0, .getfield 557, 3, 8, 98, [0, 1, 7047]), (64, 0, .ifCond .eq 32, 3, 0, 0, []), (67, 0, .aload_n 0, 1, 0, 0, []), (68, 0, .iconst 0, 1, 0, 0, []), (69, 0, .putfield 557, 3, 8, 98, [0, 1, 7047]), (72, 0, .iconst 0, 1, 0, 0, []), (73, 0, .istore_n 2, 1, 0, 0, []), (74, 5, .iload_n 2, 1, 0, 0, []), (75, 0, .aload_n 0, 1, 0, 0, []), (76, 0, .getfield 531, 3, 8, 14, [0, 0, 6203]), (79, 0, .if_icmp .ge 14, 3, 0, 0, []), (82, 0, .aload_n 0, 1, 0, 0, []), (83, 0, .iload_n 2, 1, 0, 0, []), (84, 0, .invokevirtual 574, 3, 253, 8, [9180]), (87, 0, .iinc 2 1, 3, 0, 0, []), (90, 0, .goto (-16), 3, 0, 0, []), (93, 0, .goto (-33), 3, 0, 0, []), (96, 0, .aload_n 0, 1, 0, 0, []), (97, 0, .iconst 1, 1, 0, 0, []), (98, 0, .putfield 509, 3, 8, 68, [0, 1, 7017]), (101, 0, .return_, 1, 0, 0, [])]
def m_Model_reach : List aT := [(0, [(0, 2)], []), (2, [(0, 2), (1, 0)], []), (24, [(0, 2), (1, 0)], []), (60, [(0, 2)], []), (74, [(0, 2), (2, 0)], [])]
def B_Model_reach_0 (X : Nat → List Int → AMem → Prop) (Q : Int → AMem → Prop) (σ : AMem) : Prop :=
  X 1 [9790, 0] σ
def B_Model_reach_1 (X : Nat → List Int → AMem → Prop) (Q : Int → AMem → Prop) (x1 : Int) (σ : AMem) : Prop :=
  (if x1 < 1536 then
  0 ≤ x1 ∧ x1 < 1536 ∧ am_let (am_upd σ 9841 x1 0) (fun σ1 => am_r32 (x1 + 1) ∧ X 1 [9790, (x1 + 1)] σ1)
  else
  X 2 [9790, 0] σ)
def B_Model_reach_2 (X : Nat → List Int → AMem → Prop) (Q : Int → AMem → Prop) (x1 : Int) (σ : AMem) : Prop :=
  (if x1 < (σ 9790 20) then
  0 ≤ x1 ∧ x1 < 4096 ∧ am_let (am_upd σ 9842 x1 0) (fun σ6 => am_r32 (x1 + 1) ∧ X 2 [9790, (x1 + 1)] σ6)
  else
  T_Model_start [9790] σ (fun r1 σ2 => T_Model_reachName [9790, r1] σ2 (fun r3 σ4 => am_let (am_upd σ4 9790 98 1) (fun σ5 => X 3 [9790] σ5))))
def B_Model_reach_3 (X : Nat → List Int → AMem → Prop) (Q : Int → AMem → Prop) (σ : AMem) : Prop :=
  (if (σ 9790 98) = 0 then
  am_let (am_upd σ 9790 68 1) (fun σ1 => Q 0 σ1)
  else
  am_let (am_upd σ 9790 98 0) (fun σ2 => X 4 [9790, 0] σ2))
def B_Model_reach_4 (X : Nat → List Int → AMem → Prop) (Q : Int → AMem → Prop) (x2 : Int) (σ : AMem) : Prop :=
  (if x2 < (σ 9790 14) then
  T_Model_reachSites [9790, x2] σ (fun r1 σ2 => am_r32 (x2 + 1) ∧ X 4 [9790, (x2 + 1)] σ2)
  else
  X 3 [9790] σ)
def B_Model_reach : (Nat → List Int → AMem → Prop) → (Int → AMem → Prop) → Nat → List Int → AMem → Prop := fun X Q j v σ => am_sel [(am_v1 (fun t σ => if t = 9790 then B_Model_reach_0 X Q σ else False)), (am_v2 (fun t x1 σ => if t = 9790 then B_Model_reach_1 X Q x1 σ else False)), (am_v2 (fun t x1 σ => if t = 9790 then B_Model_reach_2 X Q x1 σ else False)), (am_v1 (fun t σ => if t = 9790 then B_Model_reach_3 X Q σ else False)), (am_v2 (fun t x2 σ => if t = 9790 then B_Model_reach_4 X Q x2 σ else False))] j v σ
def T_Model_reach : List Int → AMem → (Int → AMem → Prop) → Prop := am_T B_Model_reach
abbrev y_Model_reach : MethodName := ⟨"LinkHouseModel", "reach", "()V"⟩
def a_Model_reach : AC := (254, (y_Model_reach, prog_10_method_76_code, 3, (Option.none : Option Jvm.ClassFile.FieldType)), [2], 3, false, { frames := 9, cells := 0, slots := 0, locals := 277 }, T_Model_reach)
set_option maxRecDepth 100000 in
theorem ms_Model_reach : am_MSp a_Model_reach := am_ms_v 9167 9 9166 109006 8 rfl (by decide +kernel)
abbrev k_Model_reach : List AC := [a_Model_start, a_Model_reachName, a_Model_reachSites]
set_option maxRecDepth 100000 in
theorem s_Model_reach : (am_chkR { frames := 9, cells := 0, slots := 0, locals := 277 } k_Model_reach && am_chkN c_Model_reach { frames := 9, cells := 0, slots := 0, locals := 277 } && c_Model_reach.all (am_chk "LinkHouseModel" prog_10_method_76_code 3 (Option.none : Option Jvm.ClassFile.FieldType) k_Model_reach) && c_Model_reach.all (am_chkL m_Model_reach) && decide (m_Model_reach[0]? = some (0, am_argp 0 [2], [])) && decide (am_argn [2] ≤ 3)) = true := by decide +kernel
set_option maxHeartbeats 150000 in
set_option maxRecDepth 100000 in
theorem h_Model_reach : ∀ X Q j v σ, B_Model_reach X Q j v σ → am_at GR k_Model_reach c_Model_reach m_Model_reach X Q 61 j v σ := fun X Q => am_sel_all (P := fun j v σ => am_at GR k_Model_reach c_Model_reach m_Model_reach X Q 61 j v σ) (⟨(am_v1_of (fun t σ h => am_tk (fun e => by subst e; exact fun h => h) h)), ⟨(am_v2_of (fun t x1 σ h => am_tk (fun e => by subst e; exact fun h => h) h)), ⟨(am_v2_of (fun t x1 σ h => am_tk (fun e => by subst e; exact fun h => h) h)), ⟨(am_v1_of (fun t σ h => am_tk (fun e => by subst e; exact fun h => h) h)), ⟨(am_v2_of (fun t x2 σ h => am_tk (fun e => by subst e; exact fun h => h) h)), trivial⟩⟩⟩⟩⟩)
set_option maxRecDepth 100000 in
theorem S_Model_reach (l : Launch) (w : AW) : am_S l w GR a_Model_reach := am_sound (rt := 3) (cal := k_Model_reach) 254 y_Model_reach prog_10_method_76_code 3 (Option.none : Option Jvm.ClassFile.FieldType) [2] false { frames := 9, cells := 0, slots := 0, locals := 277 } B_Model_reach "LinkHouseModel" c_Model_reach m_Model_reach 61 ms_Model_reach (by decide +kernel) rfl rfl (am_cal (S_Model_start l w) (am_cal (S_Model_reachName l w) (am_cal (S_Model_reachSites l w) (fun _ h => absurd h List.not_mem_nil)))) s_Model_reach h_Model_reach
set_option maxRecDepth 100000 in
theorem of_Model_reach {Q : Int → AMem → Prop} {σ : AMem} (h : ∀ X : Nat → List Int → AMem → Prop, (∀ (σ : AMem), B_Model_reach_0 X Q σ → X 0 [9790] σ) → (∀ (x1 : Int) (σ : AMem), B_Model_reach_1 X Q x1 σ → X 1 [9790, x1] σ) → (∀ (x1 : Int) (σ : AMem), B_Model_reach_2 X Q x1 σ → X 2 [9790, x1] σ) → (∀ (σ : AMem), B_Model_reach_3 X Q σ → X 3 [9790] σ) → (∀ (x2 : Int) (σ : AMem), B_Model_reach_4 X Q x2 σ → X 4 [9790, x2] σ) → X 0 [9790] σ) : T_Model_reach [9790] σ Q := fun X hX => h X (fun σ h => hX 0 [9790] σ h) (fun x1 σ h => hX 1 [9790, x1] σ h) (fun x1 σ h => hX 2 [9790, x1] σ h) (fun σ h => hX 3 [9790] σ h) (fun x2 σ h => hX 4 [9790, x2] σ h)
def c_Model_stays : List aE := [(0, 1, .aload_n 0, 1, 0, 0, []), (1, 0, .aload_n 0, 1, 0, 0, []), (2, 0, .iload_n 1, 1, 0, 0, []), (3, 0, .invokevirtual 503, 3, 236, 8, [9124]), (6, 0, .iload_n 2, 1, 0, 0, []), (7, 0, .invokevirtual 347, 3, 192, 8, [8164]), (10, 0, .ifCond .eq 42, 3, 0, 0, []), (13, 0, .aload_n 0, 1, 0, 0, []), (14, 0, .getfield 166, 3, 8, 65, [2, 0, 7014]), (17, 0, .bipush 24, 2, 0, 0, []), (19, 0, .iload_n 1, 1, 0, 0, []), (20, 0, .imul, 1, 0, 0, []), (21, 0, .iload_n 2, 1, 0, 0, []), (22, 0, .iadd, 1, 0, 0, []), (23, 0, .baload, 1, 3, 0, []), (24, 0, .ifCond .ne 28, 3, 0, 0, []), (27, 0, .aload_n 0, 1, 0, 0, []), (28, 0, .getfield 509, 3, 8, 68, [0, 1, 7017]), (31, 0, .ifCond .eq 17, 3, 0, 0, []), (34, 0, .aload_n 0, 1, 0, 0, []), (35, 0, .getfield 169, 3, 8, 66, [2, 0, 7015]), (38, 0, .bipush 24, 2, 0, 0, []), (40, 0, .iload_n 1, 1, 0, 0, []), (41, 0, .imul, 1, 0, 0, []), (42, 0, .iload_n 2, 1, 0, 0, []), (43, 0, .iadd, 1, 0, 0, []), (44, 0, .baload, 1, 3, 0, []), (45, 0, .ifCond .eq 7, 3, 0, 0, []), (48, 0, .iconst 1, 1, 0, 0, []), (49, 0, .goto 4, 3, 0, 0, []), (52, 0, .iconst 0, 1, 0, 0, []), (53, 0, .ireturn, 1, 1, 0, [])]
def m_Model_stays : List aT := [(0, [(0, 2), (1, 0), (2, 0)], [])]
def B_Model_stays_0 (X : Nat → List Int → AMem → Prop) (Q : Int → AMem → Prop) (x1 x2 : Int) (σ : AMem) : Prop :=
  T_Model_object [9790, x1] σ (fun r1 σ2 => T_Model_isKept [9790, r1, x2] σ2 (fun r3 σ4 => (if r3 = 0 then
  Q 0 σ4
  else
  am_r32 (24 * x1) ∧ am_r32 ((24 * x1) + x2) ∧ 0 ≤ ((24 * x1) + x2) ∧ ((24 * x1) + x2) < 1536 ∧ (if (σ4 9840 ((24 * x1) + x2)) = 0 then
    (if (σ4 9790 68) = 0 then
      Q 1 σ4
      else
      am_r32 (24 * x1) ∧ am_r32 ((24 * x1) + x2) ∧ 0 ≤ ((24 * x1) + x2) ∧ ((24 * x1) + x2) < 1536 ∧ (if (σ4 9841 ((24 * x1) + x2)) = 0 then
        Q 0 σ4
        else
        Q 1 σ4))
    else
    Q 0 σ4))))
def B_Model_stays : (Nat → List Int → AMem → Prop) → (Int → AMem → Prop) → Nat → List Int → AMem → Prop := fun X Q j v σ => am_sel [(am_v3 (fun t x1 x2 σ => if t = 9790 then B_Model_stays_0 X Q x1 x2 σ else False))] j v σ
def T_Model_stays : List Int → AMem → (Int → AMem → Prop) → Prop := am_T B_Model_stays
abbrev y_Model_stays : MethodName := ⟨"LinkHouseModel", "stays", "(II)Z"⟩
def a_Model_stays : AC := (255, (y_Model_stays, prog_10_method_62_code, 3, (Option.some Jvm.ClassFile.FieldType.boolean)), [2, 0, 0], 0, false, { frames := 4, cells := 0, slots := 0, locals := 123 }, T_Model_stays)
set_option maxRecDepth 100000 in
theorem ms_Model_stays : am_MSp a_Model_stays := am_ms_v 9191 9 9190 109012 8 rfl (by decide +kernel)
abbrev k_Model_stays : List AC := [a_Model_object, a_Model_isKept]
set_option maxRecDepth 100000 in
theorem s_Model_stays : (am_chkR { frames := 4, cells := 0, slots := 0, locals := 123 } k_Model_stays && am_chkN c_Model_stays { frames := 4, cells := 0, slots := 0, locals := 123 } && c_Model_stays.all (am_chk "LinkHouseModel" prog_10_method_62_code 3 (Option.some Jvm.ClassFile.FieldType.boolean) k_Model_stays) && c_Model_stays.all (am_chkL m_Model_stays) && decide (m_Model_stays[0]? = some (0, am_argp 0 [2, 0, 0], [])) && decide (am_argn [2, 0, 0] ≤ 3)) = true := by decide +kernel
set_option maxHeartbeats 150000 in
set_option maxRecDepth 100000 in
theorem h_Model_stays : ∀ X Q j v σ, B_Model_stays X Q j v σ → am_at GR k_Model_stays c_Model_stays m_Model_stays X Q 37 j v σ := fun X Q => am_sel_all (P := fun j v σ => am_at GR k_Model_stays c_Model_stays m_Model_stays X Q 37 j v σ) (⟨(am_v3_of (fun t x1 x2 σ h => am_tk (fun e => by subst e; exact fun h => h) h)), trivial⟩)
set_option maxRecDepth 100000 in
theorem S_Model_stays (l : Launch) (w : AW) : am_S l w GR a_Model_stays := am_sound (rt := 0) (cal := k_Model_stays) 255 y_Model_stays prog_10_method_62_code 3 (Option.some Jvm.ClassFile.FieldType.boolean) [2, 0, 0] false { frames := 4, cells := 0, slots := 0, locals := 123 } B_Model_stays "LinkHouseModel" c_Model_stays m_Model_stays 37 ms_Model_stays (by decide +kernel) rfl rfl (am_cal (S_Model_object l w) (am_cal (S_Model_isKept l w) (fun _ h => absurd h List.not_mem_nil))) s_Model_stays h_Model_stays
set_option maxRecDepth 100000 in
theorem of_Model_stays {Q : Int → AMem → Prop} {x1 x2 : Int} {σ : AMem} (h : ∀ X : Nat → List Int → AMem → Prop, (∀ (x1 x2 : Int) (σ : AMem), B_Model_stays_0 X Q x1 x2 σ → X 0 [9790, x1, x2] σ) → X 0 [9790, x1, x2] σ) : T_Model_stays [9790, x1, x2] σ Q := fun X hX => h X (fun x1 x2 σ h => hX 0 [9790, x1, x2] σ h)
set_option maxRecDepth 100000 in
theorem iff_Model_stays {Q : Int → AMem → Prop} {X : Nat → List Int → AMem → Prop} {x1 x2 : Int} {σ : AMem} : T_Model_stays [9790, x1, x2] σ Q ↔ B_Model_stays_0 X Q x1 x2 σ := ⟨fun h => h (fun j v σ => B_Model_stays X Q j v σ) (fun _ _ _ q => q), fun h _ hX => hX 0 _ _ h⟩
def c_Model_group : List aE := [(0, 1, .aload_n 0, 1, 0, 0, []), (1, 0, .iload_n 1, 1, 0, 0, []), (2, 0, .iload_n 2, 1, 0, 0, []), (3, 0, .invokevirtual 299, 3, 188, 8, [8143]), (6, 0, .ldc2_w 302, 3, 8, 0, [8155]), (9, 0, .lcmp, 1, 0, 0, []), (10, 0, .ifCond .ne 7, 3, 0, 0, []), (13, 0, .iconst 1, 1, 0, 0, []), (14, 0, .goto 4, 3, 0, 0, []), (17, 0, .iconst 0, 1, 0, 0, []), (18, 2, .istore_n 3, 1, 0, 0, []), (19, 0, .aload_n 0, 1, 0, 0, []), (20, 0, .iload_n 1, 1, 0, 0, []), (21, 0, .iload_n 2, 1, 0, 0, []), (22, 0, .invokevirtual 304, 3, 191, 8, [8168]), (25, 0, .ldc2_w 309, 3, 1024, 0, [9196]), (28, 0, .land, 1, 0, 0, []), (29, 0, .lconst 0, 1, 0, 0, []), (30, 0, .lcmp, 1, 0, 0, []), (31, 0, .ifCond .eq 13, 3, 0, 0, []), (34, 0, .iload_n 3, 1, 0, 0, []), (35, 0, .ifCond .eq 7, 3, 0, 0, []), (38, 0, .iconst 5, 1, 0, 0, []), (39, 0, .goto 4, 3, 0, 0, []), (42, 0, .iconst 4, 1, 0, 0, []), (43, 0, .ireturn, 1, 0, 0, []), (44, 0, .iload_n 3, 1, 0, 0, []), (45, 0, .ifCond .eq 7, 3, 0, 0, []), (48, 0, .iconst 3, 1, 0, 0, []), (49, 0, .goto 40, 3, 0, 0, []), (52, 0, .aload_n 0, 1, 0, 0, []), (53, 0, .iload_n 1, 1, 0, 0, []), (54, 0, .iload_n 2, 1, 0, 0, []), (55, 0, .invokevirtual 304, 3, 191, 8, [8168]), (58, 0, .ldc2_w 311, 3, 4, 0, [8239]), (61, 0, .land, 1, 0, 0, []), (62, 0, .lconst 0, 1, 0, 0, []), (63, 0, .lcmp, 1, 0, 0, []), (64, 0, .ifCond .eq 7, 3, 0, 0, []), (67, 0, .iconst 0, 1, 0, 0, []), (68, 0, .goto 21, 3, 0, 0, []), (71, 0, .aload_n 0, 1, 0, 0, []), (72, 0, .iload_n 1, 1, 0, 0, []), (73, 0, .iload_n 2, 1, 0, 0, []), (74, 0, .invokevirtual 304, 3, 191, 8, [8168]), (77, 0, .lconst 1, 1, 0, 0, []), (78, 0, .land, 1, 0, 0, []), (79, 0, .lconst 0, 1, 0, 0, []), (80, 0, .lcmp, 1, 0, 0, []), (81, 0, .ifCond .eq 7, 3, 0, 0, []), (84, 0, .iconst 2, 1, 0, 0, []), (85, 0, .goto 4, 3, 0, 0, []), (88, 0, .iconst 1, 1, 0, 0, []), (89, 0, .ireturn, 1, 0, 0, [])]
def m_Model_group : List aT := [(0, [(0, 2), (1, 0), (2, 0)], []), (18, [(0, 2), (1, 0), (2, 0)], [0])]
def B_Model_group_0 (X : Nat → List Int → AMem → Prop) (Q : Int → AMem → Prop) (x1 x2 : Int) (σ : AMem) : Prop :=
  T_Model_type [9790, x1, x2] σ (fun r1 σ2 => (if r1 = 8 then
  X 1 [9790, x1, x2, 1] σ2
  else
  X 1 [9790, x1, x2, 0] σ2))
def B_Model_group_1 (X : Nat → List Int → AMem → Prop) (Q : Int → AMem → Prop) (x1 x2 s0 : Int) (σ : AMem) : Prop :=
  T_Model_flagsOf [9790, x1, x2] σ (fun r1 σ2 => (if (l_and r1 1024) = 0 then
  (if s0 = 0 then
    T_Model_flagsOf [9790, x1, x2] σ2 (fun r3 σ4 => (if (l_and r3 4) = 0 then
      T_Model_flagsOf [9790, x1, x2] σ4 (fun r5 σ6 => (if (l_and r5 1) = 0 then
        Q 1 σ6
        else
        Q 2 σ6))
      else
      Q 0 σ4))
    else
    Q 3 σ2)
  else
  (if s0 = 0 then
    Q 4 σ2
    else
    Q 5 σ2)))
def B_Model_group : (Nat → List Int → AMem → Prop) → (Int → AMem → Prop) → Nat → List Int → AMem → Prop := fun X Q j v σ => am_sel [(am_v3 (fun t x1 x2 σ => if t = 9790 then B_Model_group_0 X Q x1 x2 σ else False)), (am_v4 (fun t x1 x2 s0 σ => if t = 9790 then B_Model_group_1 X Q x1 x2 s0 σ else False))] j v σ
def T_Model_group : List Int → AMem → (Int → AMem → Prop) → Prop := am_T B_Model_group
abbrev y_Model_group : MethodName := ⟨"LinkHouseModel", "group", "(II)I"⟩
def a_Model_group : AC := (256, (y_Model_group, prog_10_method_16_code, 4, (Option.some Jvm.ClassFile.FieldType.int)), [2, 0, 0], 0, false, { frames := 3, cells := 0, slots := 0, locals := 93 }, T_Model_group)
set_option maxRecDepth 100000 in
theorem ms_Model_group : am_MSp a_Model_group := am_ms_v 9195 9 9194 109013 8 rfl (by decide +kernel)
abbrev k_Model_group : List AC := [a_Model_type, a_Model_flagsOf]
set_option maxRecDepth 100000 in
theorem s_Model_group : (am_chkR { frames := 3, cells := 0, slots := 0, locals := 93 } k_Model_group && am_chkN c_Model_group { frames := 3, cells := 0, slots := 0, locals := 93 } && c_Model_group.all (am_chk "LinkHouseModel" prog_10_method_16_code 4 (Option.some Jvm.ClassFile.FieldType.int) k_Model_group) && c_Model_group.all (am_chkL m_Model_group) && decide (m_Model_group[0]? = some (0, am_argp 0 [2, 0, 0], [])) && decide (am_argn [2, 0, 0] ≤ 4)) = true := by decide +kernel
set_option maxHeartbeats 150000 in
set_option maxRecDepth 100000 in
theorem h_Model_group : ∀ X Q j v σ, B_Model_group X Q j v σ → am_at GR k_Model_group c_Model_group m_Model_group X Q 59 j v σ := fun X Q => am_sel_all (P := fun j v σ => am_at GR k_Model_group c_Model_group m_Model_group X Q 59 j v σ) (⟨(am_v3_of (fun t x1 x2 σ h => am_tk (fun e => by subst e; exact fun h => h) h)), ⟨(am_v4_of (fun t x1 x2 s0 σ h => am_tk (fun e => by subst e; exact fun h => h) h)), trivial⟩⟩)
set_option maxRecDepth 100000 in
theorem S_Model_group (l : Launch) (w : AW) : am_S l w GR a_Model_group := am_sound (rt := 0) (cal := k_Model_group) 256 y_Model_group prog_10_method_16_code 4 (Option.some Jvm.ClassFile.FieldType.int) [2, 0, 0] false { frames := 3, cells := 0, slots := 0, locals := 93 } B_Model_group "LinkHouseModel" c_Model_group m_Model_group 59 ms_Model_group (by decide +kernel) rfl rfl (am_cal (S_Model_type l w) (am_cal (S_Model_flagsOf l w) (fun _ h => absurd h List.not_mem_nil))) s_Model_group h_Model_group
set_option maxRecDepth 100000 in
theorem of_Model_group {Q : Int → AMem → Prop} {x1 x2 : Int} {σ : AMem} (h : ∀ X : Nat → List Int → AMem → Prop, (∀ (x1 x2 : Int) (σ : AMem), B_Model_group_0 X Q x1 x2 σ → X 0 [9790, x1, x2] σ) → (∀ (x1 x2 s0 : Int) (σ : AMem), B_Model_group_1 X Q x1 x2 s0 σ → X 1 [9790, x1, x2, s0] σ) → X 0 [9790, x1, x2] σ) : T_Model_group [9790, x1, x2] σ Q := fun X hX => h X (fun x1 x2 σ h => hX 0 [9790, x1, x2] σ h) (fun x1 x2 s0 σ h => hX 1 [9790, x1, x2, s0] σ h)
def c_Model_lay : List aE := [(0, 1, .aload_n 0, 1, 0, 0, []), (1, 0, .iconst 0, 1, 0, 0, []), (2, 0, .putfield 601, 3, 8, 50, [0, 0, 6239]), (5, 0, .iconst 0, 1, 0, 0, []), (6, 0, .istore_n 1, 1, 0, 0, []), (7, 2, .iload_n 1, 1, 0, 0, []), (8, 0, .bipush 6, 2, 0, 0, []), (10, 0, .if_icmp .ge 217, 3, 0, 0, []), (13, 0, .iload_n 1, 1, 0, 0, []), (14, 0, .iconst 2, 1, 0, 0, []), (15, 0, .if_icmp .ge 7, 3, 0, 0, []), (18, 0, .iload_n 1, 1, 0, 0, []), (19, 0, .goto 17, 3, 0, 0, []), (22, 0, .iload_n 1, 1, 0, 0, []), (23, 0, .iconst 4, 1, 0, 0, []), (24, 0, .if_icmp .ge 9, 3, 0, 0, []), (27, 0, .iload_n 1, 1, 0, 0, []), (28, 0, .iconst 2, 1, 0, 0, []), (29, 0, .iadd, 1, 0, 0, []), (30, 0, .goto 6, 3, 0, 0, []), (33, 0, .iload_n 1, 1, 0, 0, []), (34, 0, .iconst 2, 1, 0, 0, []), (35, 0, .isub, 1, 0, 0, []), (36, 3, .istore_n 2, 1, 0, 0, []), (37, 0, .iconst 0, 1, 0, 0, []), (38, 0, .istore_n 3, 1, 0, 0, []), (39, 4, .iload_n 3, 1, 0, 0, []), (40, 0, .aload_n 0, 1, 0, 0, []), (41, 0, .getfield 531, 3, 8, 14, [0, 0, 6203]), (44, 0, .if_icmp .ge 177, 3, 0, 0, []), (47, 0, .aload_n 0, 1, 0, 0, []), (48, 0, .iload_n 3, 1, 0, 0, []), (49, 0, .invokevirtual 503, 3, 236, 8, [9124]), (52, 0, .istore 4, 2, 0, 0, []), (54, 0, .iconst 1, 1, 0, 0, []), (55, 0, .istore 5, 2, 0, 0, []), (57, 5, .iload 5, 2, 0, 0, []), (59, 0, .aload_n 0, 1, 0, 0, []), (60, 0, .iload 4, 2, 0, 0, []), (62, 0, .invokevirtual 313, 3, 185, 8, [8136]), (65, 0, .if_icmp .ge 150, 3, 0, 0, []), (68, 0, .aload_n 0, 1, 0, 0, []), (69, 0, .iload_n 3, 1, 0, 0, []), (70, 0, .iload 5, 2, 0, 0, []), (72, 0, .invokevirtual 591, 3, 255, 8, [9188]), (75, 0, .ifCond .eq 134, 3, 0, 0, []), (78, 0, .aload_n 0, 1, 0, 0, []), (79, 0, .iload 4, 2, 0, 0, []), (81, 0, .iload 5, 2, 0, 0, []), (83, 0, .invokevirtual 604, 3, 256, 8, [9192]), (86, 0, .iload_n 2, 1, 0, 0, []), (87, 0, .if_icmp .eq 6, 3, 0, 0, []), (90, 0, .goto 119, 3, 0, 0, []), (93, 0, .aload_n 0, 1, 0, 0, []), (94, 0, .getfield 127, 3, 8, 51, [2, 0, 7000]), (97, 0, .aload_n 0, 1, 0, 0, []), (98, 0, .getfield 601, 3, 8, 50, [0, 0, 6239]), (101, 0, .iload_n 3, 1, 0, 0, []), (102, 0, .iastore, 1, 0, 0, []), (103, 0, .aload_n 0, 1, 0, 0, []), (104, 0, .getfield 130, 3, 8, 52, [2, 0, 7001]), (107, 0, .aload_n 0, 1, 0, 0, []), (108, 0, .getfield 601, 3, 8, 50, [0, 0, 6239]), (111, 0, .aload_n 0, 1, 0, 0, []), (112, 0, .getfield 44, 3, 8, 17, [2, 0, 6206]), (115, 0, .iload_n 3, 1, 0, 0, []), (116, 0, .iaload, 1, 0, 0, []), (117, 0, .bipush 8, 2, 0, 0, []), (119, 0, .idiv, 1, 0, 0, []), (120, 0, .iastore, 1, 0, 0, []), (121, 0, .aload_n 0, 1, 0, 0, []), (122, 0, .getfield 133, 3, 8, 53, [2, 0, 7002]), (125, 0, .aload_n 0, 1, 0, 0, []), (126, 0, .getfield 601, 3, 8, 50, [0, 0, 6239]), (129, 0, .aload_n 0, 1, 0, 0, []), (130, 0, .getfield 33, 3, 8, 11, [2, 0, 6200]), (133, 0, .aload_n 0, 1, 0, 0, []), (134, 0, .getfield 130, 3, 8, 52, [2, 0, 7001]), (137, 0, .aload_n 0, 1, 0, 0, []), (138, 0, .getfield 601, 3, 8, 50, [0, 0, 6239]), (141, 0, .iaload, 1, 0, 0, []), (142, 0, .baload, 1, 3, 0, []), (143, 0, .ifCond .eq 15, 3, 0, 0, []), (146, 0, .aload_n 0, 1, 0, 0, []), (147, 0, .getfield 44, 3, 8, 17, [2, 0, 6206]), (150, 0, .iload_n 3, 1, 0, 0, []), (151, 0, .iaload, 1, 0, 0, []), (152, 0, .bipush 8, 2, 0, 0, []), (154, 0, .irem, 1, 0, 0, []), (155, 0, .goto 4, 3, 0, 0, []), (158, 0, .iconst 0, 1, 0, 0, []), (159, 6, .iastore, 1, 0, 0, []), (160, 0, .aload_n 0, 1, 0, 0, []), (161, 0, .getfield 136, 3, 8, 54, [2, 0, 7003]), (164, 0, .aload_n 0, 1, 0, 0, []), (165, 0, .getfield 601, 3, 8, 50, [0, 0, 6239]), (168, 0, .iload 5, 2, 0, 0, []), (170, 0, .iastore, 1, 0, 0, []), (171, 0, .aload_n 0, 1, 0, 0, []), (172, 0, .getfield 139, 3, 8, 55, [2, 0, 7004]), (175, 0, .aload_n 0, 1, 0, 0, []), (176, 0, .getfield 601, 3, 8, 50, [0, 0, 6239]), (179, 0, .iload_n 2, 1, 0, 0, []), (180, 0, .iastore, 1, 0, 0, []), (181, 0, .aload_n 0, 1, 0, 0, []), (182, 0, .getfield 142, 3, 8, 56, [2, 0, 7005]), (185, 0, .aload_n 0, 1, 0, 0, []), (186, 0, .getfield 601, 3, 8, 50, [0, 0, 6239]), (189, 0, .aload_n 0, 1, 0, 0, []), (190, 0, .iload 4, 2, 0, 0, []), (192, 0, .iload 5, 2, 0, 0, []), (194, 0, .invokevirtual 320, 3, 190, 8, [8160]), (197, 0, .l2i, 1, 0, 0, []), (198, 0, .iastore, 1, 0, 0, []), (199, 0, .aload_n 0, 1, 0, 0, []), (200, 0, .dup, 1, 0, 0, []), (201, 0, .getfield 601, 3, 8, 50, [0, 0, 6239]), (204, 0, .iconst 1, 1, 0, 0, []), (205, 0, .iadd, 1, 0, 0, []), (206, 0, .putfield 601, 3, 8, 50, [0, 0, 6239]), (209, 7, .iinc 5 1, 3, 0, 0, []), (212, 0, .goto (-155), 3, 0, 0, []), (215, 0, .iinc 3 1, 3, 0, 0, []), (218, 0, .goto (-179), 3, 0, 0, []), (221, 0, .iinc 1 1, 3, 0, 0, []), (224, 0, .goto (-217), 3, 0, 0, []), (227, 0, .return_, 1, 0, 0, [])]
def m_Model_lay : List aT := [(0, [(0, 2)], []), (7, [(0, 2), (1, 0)], []), (36, [(0, 2), (1, 0)], [0]), (39, [(0, 2), (1, 0), (2, 0), (3, 0)], []), (57, [(0, 2), (1, 0), (2, 0), (3, 0), (4, 0), (5, 0)], []), (159, [(0, 2), (1, 0), (2, 0), (3, 0), (4, 0), (5, 0)], [0, 0, 2]), (209, [(0, 2), (1, 0), (2, 0), (3, 0), (4, 0), (5, 0)], [])]
def B_Model_lay_0 (X : Nat → List Int → AMem → Prop) (Q : Int → AMem → Prop) (σ : AMem) : Prop :=
  am_let (am_upd σ 9790 50 0) (fun σ1 => X 1 [9790, 0] σ1)
def B_Model_lay_1 (X : Nat → List Int → AMem → Prop) (Q : Int → AMem → Prop) (x1 : Int) (σ : AMem) : Prop :=
  (if x1 < 6 then
  (if x1 < 2 then
    X 2 [9790, x1, x1] σ
    else
    (if x1 < 4 then
      am_r32 (x1 + 2) ∧ X 2 [9790, x1, (x1 + 2)] σ
      else
      am_r32 (x1 - 2) ∧ X 2 [9790, x1, (x1 - 2)] σ))
  else
  Q 0 σ)
def B_Model_lay_2 (X : Nat → List Int → AMem → Prop) (Q : Int → AMem → Prop) (x1 s0 : Int) (σ : AMem) : Prop :=
  X 3 [9790, x1, s0, 0] σ
def B_Model_lay_3 (X : Nat → List Int → AMem → Prop) (Q : Int → AMem → Prop) (x1 x2 x3 : Int) (σ : AMem) : Prop :=
  (if x3 < (σ 9790 14) then
  T_Model_object [9790, x3] σ (fun r1 σ2 => X 4 [9790, x1, x2, x3, r1, 1] σ2)
  else
  am_r32 (x1 + 1) ∧ X 1 [9790, (x1 + 1)] σ)
def B_Model_lay_4 (X : Nat → List Int → AMem → Prop) (Q : Int → AMem → Prop) (x1 x2 x3 x4 x5 : Int) (σ : AMem) : Prop :=
  T_Model_sections [9790, x4] σ (fun r1 σ2 => (if x5 < r1 then
  T_Model_stays [9790, x3, x5] σ2 (fun r3 σ4 => (if r3 = 0 then
    X 6 [9790, x1, x2, x3, x4, x5] σ4
    else
    T_Model_group [9790, x4, x5] σ4 (fun r5 σ6 => (if r5 = x2 then
      0 ≤ (σ6 9790 50) ∧ (σ6 9790 50) < 1536 ∧ am_let (am_upd σ6 9827 (σ6 9790 50) x3) (fun σ7 => 0 ≤ x3 ∧ x3 < 64 ∧ (0 : Int) < 8 ∧ 0 ≤ (σ7 9790 50) ∧ (σ7 9790 50) < 1536 ∧ am_let (am_upd σ7 9828 (σ7 9790 50) ((σ7 9800 x3).tdiv 8)) (fun σ8 => 0 ≤ (σ8 9790 50) ∧ (σ8 9790 50) < 1536 ∧ 0 ≤ (σ8 9828 (σ8 9790 50)) ∧ (σ8 9828 (σ8 9790 50)) < 8 ∧ (if (σ8 9798 (σ8 9828 (σ8 9790 50))) = 0 then
        X 5 [9790, x1, x2, x3, x4, x5, 0, (σ8 9790 50), 9829] σ8
        else
        0 ≤ x3 ∧ x3 < 64 ∧ (0 : Int) < 8 ∧ X 5 [9790, x1, x2, x3, x4, x5, ((σ8 9800 x3).tmod 8), (σ8 9790 50), 9829] σ8)))
      else
      X 6 [9790, x1, x2, x3, x4, x5] σ6))))
  else
  am_r32 (x3 + 1) ∧ X 3 [9790, x1, x2, (x3 + 1)] σ2))
def B_Model_lay_5 (X : Nat → List Int → AMem → Prop) (Q : Int → AMem → Prop) (x1 x2 x3 x4 x5 s0 s1 s2 : Int) (σ : AMem) : Prop :=
  (if ly_k s2 = 1 then 0 ≤ s1 ∧ s1 < ly_l s2 ∧ am_let (am_upd σ s2 s1 s0) (fun σ1 => 0 ≤ (σ1 9790 50) ∧ (σ1 9790 50) < 1536 ∧ am_let (am_upd σ1 9830 (σ1 9790 50) x5) (fun σ2 => 0 ≤ (σ2 9790 50) ∧ (σ2 9790 50) < 1536 ∧ am_let (am_upd σ2 9831 (σ2 9790 50) x2) (fun σ3 => T_Model_size [9790, x4, x5] σ3 (fun r4 σ5 => 0 ≤ (σ3 9790 50) ∧ (σ3 9790 50) < 1536 ∧ am_let (am_upd σ5 9832 (σ3 9790 50) (w32 r4)) (fun σ6 => am_r32 ((σ6 9790 50) + 1) ∧ am_let (am_upd σ6 9790 50 ((σ6 9790 50) + 1)) (fun σ7 => X 6 [9790, x1, x2, x3, x4, x5] σ7)))))) else False)
def B_Model_lay_6 (X : Nat → List Int → AMem → Prop) (Q : Int → AMem → Prop) (x1 x2 x3 x4 x5 : Int) (σ : AMem) : Prop :=
  am_r32 (x5 + 1) ∧ X 4 [9790, x1, x2, x3, x4, (x5 + 1)] σ
def B_Model_lay : (Nat → List Int → AMem → Prop) → (Int → AMem → Prop) → Nat → List Int → AMem → Prop := fun X Q j v σ => am_sel [(am_v1 (fun t σ => if t = 9790 then B_Model_lay_0 X Q σ else False)), (am_v2 (fun t x1 σ => if t = 9790 then B_Model_lay_1 X Q x1 σ else False)), (am_v3 (fun t x1 s0 σ => if t = 9790 then B_Model_lay_2 X Q x1 s0 σ else False)), (am_v4 (fun t x1 x2 x3 σ => if t = 9790 then B_Model_lay_3 X Q x1 x2 x3 σ else False)), (am_v6 (fun t x1 x2 x3 x4 x5 σ => if t = 9790 then B_Model_lay_4 X Q x1 x2 x3 x4 x5 σ else False)), (am_v9 (fun t x1 x2 x3 x4 x5 s0 s1 s2 σ => if t = 9790 then B_Model_lay_5 X Q x1 x2 x3 x4 x5 s0 s1 s2 σ else False)), (am_v6 (fun t x1 x2 x3 x4 x5 σ => if t = 9790 then B_Model_lay_6 X Q x1 x2 x3 x4 x5 σ else False))] j v σ
def T_Model_lay : List Int → AMem → (Int → AMem → Prop) → Prop := am_T B_Model_lay
abbrev y_Model_lay : MethodName := ⟨"LinkHouseModel", "lay", "()V"⟩
def a_Model_lay : AC := (257, (y_Model_lay, prog_10_method_86_code, 6, (Option.none : Option Jvm.ClassFile.FieldType)), [2], 3, false, { frames := 5, cells := 0, slots := 0, locals := 153 }, T_Model_lay)
set_option maxRecDepth 100000 in
theorem ms_Model_lay : am_MSp a_Model_lay := am_ms_v 9187 9 9186 109011 8 rfl (by decide +kernel)
abbrev k_Model_lay : List AC := [a_Model_object, a_Model_sections, a_Model_stays, a_Model_group, a_Model_size]
set_option maxRecDepth 100000 in
theorem s_Model_lay : (am_chkR { frames := 5, cells := 0, slots := 0, locals := 153 } k_Model_lay && am_chkN c_Model_lay { frames := 5, cells := 0, slots := 0, locals := 153 } && c_Model_lay.all (am_chk "LinkHouseModel" prog_10_method_86_code 6 (Option.none : Option Jvm.ClassFile.FieldType) k_Model_lay) && c_Model_lay.all (am_chkL m_Model_lay) && decide (m_Model_lay[0]? = some (0, am_argp 0 [2], [])) && decide (am_argn [2] ≤ 6)) = true := by decide +kernel
set_option maxHeartbeats 150000 in
set_option maxRecDepth 100000 in
theorem h_Model_lay : ∀ X Q j v σ, B_Model_lay X Q j v σ → am_at GR k_Model_lay c_Model_lay m_Model_lay X Q 132 j v σ := fun X Q => am_sel_all (P := fun j v σ => am_at GR k_Model_lay c_Model_lay m_Model_lay X Q 132 j v σ) (⟨(am_v1_of (fun t σ h => am_tk (fun e => by subst e; exact fun h => h) h)), ⟨(am_v2_of (fun t x1 σ h => am_tk (fun e => by subst e; exact fun h => h) h)), ⟨(am_v3_of (fun t x1 s0 σ h => am_tk (fun e => by subst e; exact fun h => h) h)), ⟨(am_v4_of (fun t x1 x2 x3 σ h => am_tk (fun e => by subst e; exact fun h => h) h)), ⟨(am_v6_of (fun t x1 x2 x3 x4 x5 σ h => am_tk (fun e => by subst e; exact fun h => h) h)), ⟨(am_v9_of (fun t x1 x2 x3 x4 x5 s0 s1 s2 σ h => am_tk (fun e => by subst e; exact fun h => h) h)), ⟨(am_v6_of (fun t x1 x2 x3 x4 x5 σ h => am_tk (fun e => by subst e; exact fun h => h) h)), trivial⟩⟩⟩⟩⟩⟩⟩)
set_option maxRecDepth 100000 in
theorem S_Model_lay (l : Launch) (w : AW) : am_S l w GR a_Model_lay := am_sound (rt := 3) (cal := k_Model_lay) 257 y_Model_lay prog_10_method_86_code 6 (Option.none : Option Jvm.ClassFile.FieldType) [2] false { frames := 5, cells := 0, slots := 0, locals := 153 } B_Model_lay "LinkHouseModel" c_Model_lay m_Model_lay 132 ms_Model_lay (by decide +kernel) rfl rfl (am_cal (S_Model_object l w) (am_cal (S_Model_sections l w) (am_cal (S_Model_stays l w) (am_cal (S_Model_group l w) (am_cal (S_Model_size l w) (fun _ h => absurd h List.not_mem_nil)))))) s_Model_lay h_Model_lay
set_option maxRecDepth 100000 in
theorem of_Model_lay {Q : Int → AMem → Prop} {σ : AMem} (h : ∀ X : Nat → List Int → AMem → Prop, (∀ (σ : AMem), B_Model_lay_0 X Q σ → X 0 [9790] σ) → (∀ (x1 : Int) (σ : AMem), B_Model_lay_1 X Q x1 σ → X 1 [9790, x1] σ) → (∀ (x1 s0 : Int) (σ : AMem), B_Model_lay_2 X Q x1 s0 σ → X 2 [9790, x1, s0] σ) → (∀ (x1 x2 x3 : Int) (σ : AMem), B_Model_lay_3 X Q x1 x2 x3 σ → X 3 [9790, x1, x2, x3] σ) → (∀ (x1 x2 x3 x4 x5 : Int) (σ : AMem), B_Model_lay_4 X Q x1 x2 x3 x4 x5 σ → X 4 [9790, x1, x2, x3, x4, x5] σ) → (∀ (x1 x2 x3 x4 x5 s0 s1 s2 : Int) (σ : AMem), B_Model_lay_5 X Q x1 x2 x3 x4 x5 s0 s1 s2 σ → X 5 [9790, x1, x2, x3, x4, x5, s0, s1, s2] σ) → (∀ (x1 x2 x3 x4 x5 : Int) (σ : AMem), B_Model_lay_6 X Q x1 x2 x3 x4 x5 σ → X 6 [9790, x1, x2, x3, x4, x5] σ) → X 0 [9790] σ) : T_Model_lay [9790] σ Q := fun X hX => h X (fun σ h => hX 0 [9790] σ h) (fun x1 σ h => hX 1 [9790, x1] σ h) (fun x1 s0 σ h => hX 2 [9790, x1, s0] σ h) (fun x1 x2 x3 σ h => hX 3 [9790, x1, x2, x3] σ h) (fun x1 x2 x3 x4 x5 σ h => hX 4 [9790, x1, x2, x3, x4, x5] σ h) (fun x1 x2 x3 x4 x5 s0 s1 s2 σ h => hX 5 [9790, x1, x2, x3, x4, x5, s0, s1, s2] σ h) (fun x1 x2 x3 x4 x5 σ h => hX 6 [9790, x1, x2, x3, x4, x5] σ h)
def c_Model_isStrings : List aE := [(0, 1, .aload_n 0, 1, 0, 0, []), (1, 0, .iload_n 1, 1, 0, 0, []), (2, 0, .iload_n 2, 1, 0, 0, []), (3, 0, .invokevirtual 347, 3, 192, 8, [8164]), (6, 0, .ifCond .eq 69, 3, 0, 0, []), (9, 0, .aload_n 0, 1, 0, 0, []), (10, 0, .iload_n 1, 1, 0, 0, []), (11, 0, .iload_n 2, 1, 0, 0, []), (12, 0, .invokevirtual 604, 3, 256, 8, [9192]), (15, 0, .iconst 1, 1, 0, 0, []), (16, 0, .if_icmp .ne 59, 3, 0, 0, []), (19, 0, .aload_n 0, 1, 0, 0, []), (20, 0, .iload_n 1, 1, 0, 0, []), (21, 0, .iload_n 2, 1, 0, 0, []), (22, 0, .invokevirtual 304, 3, 191, 8, [8168]), (25, 0, .ldc2_w 457, 3, 48, 0, [9051]), (28, 0, .land, 1, 0, 0, []), (29, 0, .ldc2_w 457, 3, 48, 0, [9051]), (32, 0, .lcmp, 1, 0, 0, []), (33, 0, .ifCond .ne 42, 3, 0, 0, []), (36, 0, .aload_n 0, 1, 0, 0, []), (37, 0, .iload_n 1, 1, 0, 0, []), (38, 0, .iload_n 2, 1, 0, 0, []), (39, 0, .invokevirtual 353, 3, 193, 8, [8174]), (42, 0, .ldc2_w 307, 3, 2, 0, [8172]), (45, 0, .lcmp, 1, 0, 0, []), (46, 0, .ifCond .ge 29, 3, 0, 0, []), (49, 0, .aload_n 0, 1, 0, 0, []), (50, 0, .iload_n 1, 1, 0, 0, []), (51, 0, .iload_n 2, 1, 0, 0, []), (52, 0, .invokevirtual 353, 3, 193, 8, [8174]), (55, 0, .lconst 0, 1, 0, 0, []), (56, 0, .lcmp, 1, 0, 0, []), (57, 0, .ifCond .lt 18, 3, 0, 0, []), (60, 0, .aload_n 0, 1, 0, 0, []), (61, 0, .iload_n 1, 1, 0, 0, []), (62, 0, .iload_n 2, 1, 0, 0, []), (63, 0, .invokevirtual 320, 3, 190, 8, [8160]), (66, 0, .lconst 0, 1, 0, 0, []), (67, 0, .lcmp, 1, 0, 0, []), (68, 0, .ifCond .le 7, 3, 0, 0, []), (71, 0, .iconst 1, 1, 0, 0, []), (72, 0, .goto 4, 3, 0, 0, []), (75, 2, .iconst 0, 1, 0, 0, []), (76, 3, .istore_n 3, 1, 0, 0, []), (77, 0, .iload_n 3, 1, 0, 0, []), (78, 0, .ifCond .eq 30, 3, 0, 0, []), (81, 0, .aload_n 0, 1, 0, 0, []), (82, 0, .getfield 17, 3, 8, 6, [2, 0, 6195]), (85, 0, .iload_n 1, 1, 0, 0, []), (86, 0, .aload_n 0, 1, 0, 0, []), (87, 0, .iload_n 1, 1, 0, 0, []), (88, 0, .iload_n 2, 1, 0, 0, []), (89, 0, .invokevirtual 323, 3, 189, 8, [8156]), (92, 0, .l2i, 1, 0, 0, []), (93, 0, .iadd, 1, 0, 0, []), (94, 0, .aload_n 0, 1, 0, 0, []), (95, 0, .iload_n 1, 1, 0, 0, []), (96, 0, .iload_n 2, 1, 0, 0, []), (97, 0, .invokevirtual 320, 3, 190, 8, [8160]), (100, 0, .l2i, 1, 0, 0, []), (101, 0, .iadd, 1, 0, 0, []), (102, 0, .iconst 1, 1, 0, 0, []), (103, 0, .isub, 1, 0, 0, []), (104, 0, .baload, 1, 2, 0, []), (105, 0, .ifCond .eq 5, 3, 0, 0, []), (108, 0, .iconst 0, 1, 0, 0, []), (109, 0, .ireturn, 1, 1, 0, []), (110, 0, .iconst 1, 1, 0, 0, []), (111, 0, .istore 4, 2, 0, 0, []), (113, 4, .iload 4, 2, 0, 0, []), (115, 0, .aload_n 0, 1, 0, 0, []), (116, 0, .iload_n 1, 1, 0, 0, []), (117, 0, .invokevirtual 313, 3, 185, 8, [8136]), (120, 0, .if_icmp .ge 38, 3, 0, 0, []), (123, 0, .aload_n 0, 1, 0, 0, []), (124, 0, .iload_n 1, 1, 0, 0, []), (125, 0, .iload 4, 2, 0, 0, []), (127, 0, .invokevirtual 299, 3, 188, 8, [8143]), (130, 0, .ldc2_w 311, 3, 4, 0, [8239]), (133, 0, .lcmp, 1, 0, 0, []), (134, 0, .ifCond .ne 18, 3, 0, 0, []), (137, 0, .aload_n 0, 1, 0, 0, []), (138, 0, .iload_n 1, 1, 0, 0, []), (139, 0, .iload 4, 2, 0, 0, []), (141, 0, .invokevirtual 408, 3, 207, 8, [9000]), (144, 0, .iload_n 2, 1, 0, 0, []), (145, 0, .i2l, 1, 0, 0, []), (146, 0, .lcmp, 1, 0, 0, []), (147, 0, .ifCond .ne 5, 3, 0, 0, []), (150, 0, .iconst 0, 1, 0, 0, []), (151, 0, .ireturn, 1, 1, 0, []), (152, 5, .iinc 4 1, 3, 0, 0, []), (155, 0, .goto (-42), 3, 0, 0, []), (158, 0, .iconst 1, 1, 0, 0, []), (159, 0, .ireturn, 1, 1, 0, [])]
def m_Model_isStrings : List aT := [(0, [(0, 2), (1, 0), (2, 0)], []), (75, [(0, 2), (1, 0), (2, 0)], []), (76, [(0, 2), (1, 0), (2, 0)], [0]), (113, [(0, 2), (1, 0), (2, 0), (4, 0)], []), (152, [(0, 2), (1, 0), (2, 0), (4, 0)], [])]
def B_Model_isStrings_0 (X : Nat → List Int → AMem → Prop) (Q : Int → AMem → Prop) (x1 x2 : Int) (σ : AMem) : Prop :=
  T_Model_isKept [9790, x1, x2] σ (fun r1 σ2 => (if r1 = 0 then
  X 1 [9790, x1, x2] σ2
  else
  T_Model_group [9790, x1, x2] σ2 (fun r3 σ4 => (if r3 = 1 then
    T_Model_flagsOf [9790, x1, x2] σ4 (fun r5 σ6 => (if (l_and r5 48) = 48 then
      T_Model_align [9790, x1, x2] σ6 (fun r7 σ8 => (if r7 < 2 then
        T_Model_align [9790, x1, x2] σ8 (fun r9 σ10 => (if r9 < 0 then
          X 1 [9790, x1, x2] σ10
          else
          T_Model_size [9790, x1, x2] σ10 (fun r11 σ12 => (if 0 < r11 then
            X 2 [9790, x1, x2, 1] σ12
            else
            X 1 [9790, x1, x2] σ12))))
        else
        X 1 [9790, x1, x2] σ8))
      else
      X 1 [9790, x1, x2] σ6))
    else
    X 1 [9790, x1, x2] σ4))))
def B_Model_isStrings_1 (X : Nat → List Int → AMem → Prop) (Q : Int → AMem → Prop) (x1 x2 : Int) (σ : AMem) : Prop :=
  X 2 [9790, x1, x2, 0] σ
def B_Model_isStrings_2 (X : Nat → List Int → AMem → Prop) (Q : Int → AMem → Prop) (x1 x2 s0 : Int) (σ : AMem) : Prop :=
  (if s0 = 0 then
  Q 0 σ
  else
  T_Model_beginning [9790, x1, x2] σ (fun r1 σ2 => am_r32 (x1 + (w32 r1)) ∧ T_Model_size [9790, x1, x2] σ2 (fun r3 σ4 => am_r32 ((x1 + (w32 r1)) + (w32 r3)) ∧ am_r32 (((x1 + (w32 r1)) + (w32 r3)) - 1) ∧ 0 ≤ (((x1 + (w32 r1)) + (w32 r3)) - 1) ∧ (((x1 + (w32 r1)) + (w32 r3)) - 1) < 65536 ∧ (if (σ4 9793 (((x1 + (w32 r1)) + (w32 r3)) - 1)) = 0 then
    X 3 [9790, x1, x2, 1] σ4
    else
    Q 0 σ4))))
def B_Model_isStrings_3 (X : Nat → List Int → AMem → Prop) (Q : Int → AMem → Prop) (x1 x2 x4 : Int) (σ : AMem) : Prop :=
  T_Model_sections [9790, x1] σ (fun r1 σ2 => (if x4 < r1 then
  T_Model_type [9790, x1, x4] σ2 (fun r3 σ4 => (if r3 = 4 then
    T_Model_info [9790, x1, x4] σ4 (fun r5 σ6 => (if r5 = x2 then
      Q 0 σ6
      else
      X 4 [9790, x1, x2, x4] σ6))
    else
    X 4 [9790, x1, x2, x4] σ4))
  else
  Q 1 σ2))
def B_Model_isStrings_4 (X : Nat → List Int → AMem → Prop) (Q : Int → AMem → Prop) (x1 x2 x4 : Int) (σ : AMem) : Prop :=
  am_r32 (x4 + 1) ∧ X 3 [9790, x1, x2, (x4 + 1)] σ
def B_Model_isStrings : (Nat → List Int → AMem → Prop) → (Int → AMem → Prop) → Nat → List Int → AMem → Prop := fun X Q j v σ => am_sel [(am_v3 (fun t x1 x2 σ => if t = 9790 then B_Model_isStrings_0 X Q x1 x2 σ else False)), (am_v3 (fun t x1 x2 σ => if t = 9790 then B_Model_isStrings_1 X Q x1 x2 σ else False)), (am_v4 (fun t x1 x2 s0 σ => if t = 9790 then B_Model_isStrings_2 X Q x1 x2 s0 σ else False)), (am_v4 (fun t x1 x2 x4 σ => if t = 9790 then B_Model_isStrings_3 X Q x1 x2 x4 σ else False)), (am_v4 (fun t x1 x2 x4 σ => if t = 9790 then B_Model_isStrings_4 X Q x1 x2 x4 σ else False))] j v σ
def T_Model_isStrings : List Int → AMem → (Int → AMem → Prop) → Prop := am_T B_Model_isStrings
abbrev y_Model_isStrings : MethodName := ⟨"LinkHouseModel", "isStrings", "(II)Z"⟩
def a_Model_isStrings : AC := (258, (y_Model_isStrings, prog_10_method_89_code, 5, (Option.some Jvm.ClassFile.FieldType.boolean)), [2, 0, 0], 0, false, { frames := 4, cells := 0, slots := 0, locals := 124 }, T_Model_isStrings)
set_option maxRecDepth 100000 in
theorem ms_Model_isStrings : am_MSp a_Model_isStrings := am_ms_v 9204 9 9203 109015 8 rfl (by decide +kernel)
abbrev k_Model_isStrings : List AC := [a_Model_isKept, a_Model_group, a_Model_flagsOf, a_Model_align, a_Model_size, a_Model_beginning, a_Model_sections, a_Model_type, a_Model_info]
set_option maxRecDepth 100000 in
theorem s_Model_isStrings : (am_chkR { frames := 4, cells := 0, slots := 0, locals := 124 } k_Model_isStrings && am_chkN c_Model_isStrings { frames := 4, cells := 0, slots := 0, locals := 124 } && c_Model_isStrings.all (am_chk "LinkHouseModel" prog_10_method_89_code 5 (Option.some Jvm.ClassFile.FieldType.boolean) k_Model_isStrings) && c_Model_isStrings.all (am_chkL m_Model_isStrings) && decide (m_Model_isStrings[0]? = some (0, am_argp 0 [2, 0, 0], [])) && decide (am_argn [2, 0, 0] ≤ 5)) = true := by decide +kernel
set_option maxHeartbeats 150000 in
set_option maxRecDepth 100000 in
theorem h_Model_isStrings : ∀ X Q j v σ, B_Model_isStrings X Q j v σ → am_at GR k_Model_isStrings c_Model_isStrings m_Model_isStrings X Q 101 j v σ := fun X Q => am_sel_all (P := fun j v σ => am_at GR k_Model_isStrings c_Model_isStrings m_Model_isStrings X Q 101 j v σ) (⟨(am_v3_of (fun t x1 x2 σ h => am_tk (fun e => by subst e; exact fun h => h) h)), ⟨(am_v3_of (fun t x1 x2 σ h => am_tk (fun e => by subst e; exact fun h => h) h)), ⟨(am_v4_of (fun t x1 x2 s0 σ h => am_tk (fun e => by subst e; exact fun h => h) h)), ⟨(am_v4_of (fun t x1 x2 x4 σ h => am_tk (fun e => by subst e; exact fun h => h) h)), ⟨(am_v4_of (fun t x1 x2 x4 σ h => am_tk (fun e => by subst e; exact fun h => h) h)), trivial⟩⟩⟩⟩⟩)
set_option maxRecDepth 100000 in
theorem S_Model_isStrings (l : Launch) (w : AW) : am_S l w GR a_Model_isStrings := am_sound (rt := 0) (cal := k_Model_isStrings) 258 y_Model_isStrings prog_10_method_89_code 5 (Option.some Jvm.ClassFile.FieldType.boolean) [2, 0, 0] false { frames := 4, cells := 0, slots := 0, locals := 124 } B_Model_isStrings "LinkHouseModel" c_Model_isStrings m_Model_isStrings 101 ms_Model_isStrings (by decide +kernel) rfl rfl (am_cal (S_Model_isKept l w) (am_cal (S_Model_group l w) (am_cal (S_Model_flagsOf l w) (am_cal (S_Model_align l w) (am_cal (S_Model_size l w) (am_cal (S_Model_beginning l w) (am_cal (S_Model_sections l w) (am_cal (S_Model_type l w) (am_cal (S_Model_info l w) (fun _ h => absurd h List.not_mem_nil)))))))))) s_Model_isStrings h_Model_isStrings
set_option maxRecDepth 100000 in
theorem of_Model_isStrings {Q : Int → AMem → Prop} {x1 x2 : Int} {σ : AMem} (h : ∀ X : Nat → List Int → AMem → Prop, (∀ (x1 x2 : Int) (σ : AMem), B_Model_isStrings_0 X Q x1 x2 σ → X 0 [9790, x1, x2] σ) → (∀ (x1 x2 : Int) (σ : AMem), B_Model_isStrings_1 X Q x1 x2 σ → X 1 [9790, x1, x2] σ) → (∀ (x1 x2 s0 : Int) (σ : AMem), B_Model_isStrings_2 X Q x1 x2 s0 σ → X 2 [9790, x1, x2, s0] σ) → (∀ (x1 x2 x4 : Int) (σ : AMem), B_Model_isStrings_3 X Q x1 x2 x4 σ → X 3 [9790, x1, x2, x4] σ) → (∀ (x1 x2 x4 : Int) (σ : AMem), B_Model_isStrings_4 X Q x1 x2 x4 σ → X 4 [9790, x1, x2, x4] σ) → X 0 [9790, x1, x2] σ) : T_Model_isStrings [9790, x1, x2] σ Q := fun X hX => h X (fun x1 x2 σ h => hX 0 [9790, x1, x2] σ h) (fun x1 x2 σ h => hX 1 [9790, x1, x2] σ h) (fun x1 x2 s0 σ h => hX 2 [9790, x1, x2, s0] σ h) (fun x1 x2 x4 σ h => hX 3 [9790, x1, x2, x4] σ h) (fun x1 x2 x4 σ h => hX 4 [9790, x1, x2, x4] σ h)
def c_Model_childOf : List aE := [(0, 1, .aload_n 0, 1, 0, 0, []), (1, 0, .getfield 200, 3, 8, 92, [2, 0, 7041]), (4, 0, .iload_n 1, 1, 0, 0, []), (5, 0, .iaload, 1, 0, 0, []), (6, 0, .istore 4, 2, 0, 0, []), (8, 2, .iload 4, 2, 0, 0, []), (10, 0, .ifCond .le 26, 3, 0, 0, []), (13, 0, .aload_n 0, 1, 0, 0, []), (14, 0, .getfield 209, 3, 8, 95, [2, 0, 7044]), (17, 0, .iload 4, 2, 0, 0, []), (19, 0, .baload, 1, 2, 0, []), (20, 0, .iload_n 2, 1, 0, 0, []), (21, 0, .if_icmp .eq 15, 3, 0, 0, []), (24, 0, .aload_n 0, 1, 0, 0, []), (25, 0, .getfield 203, 3, 8, 93, [2, 0, 7042]), (28, 0, .iload 4, 2, 0, 0, []), (30, 0, .iaload, 1, 0, 0, []), (31, 0, .istore 4, 2, 0, 0, []), (33, 0, .goto (-25), 3, 0, 0, []), (36, 3, .iload 4, 2, 0, 0, []), (38, 0, .ifCond .gt 7, 3, 0, 0, []), (41, 0, .iload_n 3, 1, 0, 0, []), (42, 0, .ifCond .ne 6, 3, 0, 0, []), (45, 0, .iload 4, 2, 0, 0, []), (47, 0, .ireturn, 1, 0, 0, []), (48, 0, .aload_n 0, 1, 0, 0, []), (49, 0, .getfield 607, 3, 8, 89, [0, 0, 7038]), (52, 0, .istore 4, 2, 0, 0, []), (54, 0, .aload_n 0, 1, 0, 0, []), (55, 0, .getfield 209, 3, 8, 95, [2, 0, 7044]), (58, 0, .iload 4, 2, 0, 0, []), (60, 0, .iload_n 2, 1, 0, 0, []), (61, 0, .bastore, 1, 2, 0, []), (62, 0, .aload_n 0, 1, 0, 0, []), (63, 0, .getfield 200, 3, 8, 92, [2, 0, 7041]), (66, 0, .iload 4, 2, 0, 0, []), (68, 0, .iconst 0, 1, 0, 0, []), (69, 0, .iastore, 1, 0, 0, []), (70, 0, .aload_n 0, 1, 0, 0, []), (71, 0, .getfield 206, 3, 8, 94, [2, 0, 7043]), (74, 0, .iload 4, 2, 0, 0, []), (76, 0, .iconst (-1), 1, 0, 0, []), (77, 0, .iastore, 1, 0, 0, []), (78, 0, .aload_n 0, 1, 0, 0, []), (79, 0, .getfield 203, 3, 8, 93, [2, 0, 7042]), (82, 0, .iload 4, 2, 0, 0, []), (84, 0, .aload_n 0, 1, 0, 0, []), (85, 0, .getfield 200, 3, 8, 92, [2, 0, 7041]), (88, 0, .iload_n 1, 1, 0, 0, []), (89, 0, .iaload, 1, 0, 0, []), (90, 0, .iastore, 1, 0, 0, []), (91, 0, .aload_n 0, 1, 0, 0, []), (92, 0, .getfield 200, 3, 8, 92, [2, 0, 7041]), (95, 0, .iload_n 1, 1, 0, 0, []), (96, 0, .iload 4, 2, 0, 0, []), (98, 0, .iastore, 1, 0, 0, []), (99, 0, .aload_n 0, 1, 0, 0, []), (100, 0, .dup, 1, 0, 0, []), (101, 0, .getfield 607, 3, 8, 89, [0, 0, 7038]), (104, 0, .iconst 1, 1, 0, 0, []), (105, 0, .iadd, 1, 0, 0, []), (106, 0, .putfield 607, 3, 8, 89, [0, 0, 7038]), (109, 0, .iload 4, 2, 0, 0, []), (111, 0, .ireturn, 1, 0, 0, [])]
def m_Model_childOf : List aT := [(0, [(0, 2), (1, 0), (2, 0), (3, 0)], []), (8, [(0, 2), (1, 0), (2, 0), (3, 0), (4, 0)], []), (36, [(0, 2), (1, 0), (2, 0), (3, 0), (4, 0)], [])]
def B_Model_childOf_0 (X : Nat → List Int → AMem → Prop) (Q : Int → AMem → Prop) (x1 x2 x3 : Int) (σ : AMem) : Prop :=
  0 ≤ x1 ∧ x1 < 65540 ∧ X 1 [9790, x1, x2, x3, (σ 9851 x1)] σ
def B_Model_childOf_1 (X : Nat → List Int → AMem → Prop) (Q : Int → AMem → Prop) (x1 x2 x3 x4 : Int) (σ : AMem) : Prop :=
  (if 0 < x4 then
  0 ≤ x4 ∧ x4 < 65540 ∧ (if (σ 9854 x4) = x2 then
    X 2 [9790, x1, x2, x3, x4] σ
    else
    0 ≤ x4 ∧ x4 < 65540 ∧ X 1 [9790, x1, x2, x3, (σ 9852 x4)] σ)
  else
  X 2 [9790, x1, x2, x3, x4] σ)
def B_Model_childOf_2 (X : Nat → List Int → AMem → Prop) (Q : Int → AMem → Prop) (x1 x2 x3 x4 : Int) (σ : AMem) : Prop :=
  (if 0 < x4 then
  Q x4 σ
  else
  (if x3 = 0 then
    Q x4 σ
    else
    0 ≤ (σ 9790 89) ∧ (σ 9790 89) < 65540 ∧ am_let (am_upd σ 9854 (σ 9790 89) (w8 x2)) (fun σ1 => 0 ≤ (σ 9790 89) ∧ (σ 9790 89) < 65540 ∧ am_let (am_upd σ1 9851 (σ 9790 89) 0) (fun σ2 => 0 ≤ (σ 9790 89) ∧ (σ 9790 89) < 65540 ∧ am_let (am_upd σ2 9853 (σ 9790 89) (-1)) (fun σ3 => 0 ≤ x1 ∧ x1 < 65540 ∧ 0 ≤ (σ 9790 89) ∧ (σ 9790 89) < 65540 ∧ am_let (am_upd σ3 9852 (σ 9790 89) (σ3 9851 x1)) (fun σ4 => 0 ≤ x1 ∧ x1 < 65540 ∧ am_let (am_upd σ4 9851 x1 (σ 9790 89)) (fun σ5 => am_r32 ((σ5 9790 89) + 1) ∧ am_let (am_upd σ5 9790 89 ((σ5 9790 89) + 1)) (fun σ6 => Q (σ 9790 89) σ6))))))))
def B_Model_childOf : (Nat → List Int → AMem → Prop) → (Int → AMem → Prop) → Nat → List Int → AMem → Prop := fun X Q j v σ => am_sel [(am_v4 (fun t x1 x2 x3 σ => if t = 9790 then B_Model_childOf_0 X Q x1 x2 x3 σ else False)), (am_v5 (fun t x1 x2 x3 x4 σ => if t = 9790 then B_Model_childOf_1 X Q x1 x2 x3 x4 σ else False)), (am_v5 (fun t x1 x2 x3 x4 σ => if t = 9790 then B_Model_childOf_2 X Q x1 x2 x3 x4 σ else False))] j v σ
def T_Model_childOf : List Int → AMem → (Int → AMem → Prop) → Prop := am_T B_Model_childOf
abbrev y_Model_childOf : MethodName := ⟨"LinkHouseModel", "childOf", "(IBZ)I"⟩
def a_Model_childOf : AC := (259, (y_Model_childOf, prog_10_method_90_code, 5, (Option.some Jvm.ClassFile.FieldType.int)), [2, 0, 0, 0], 0, false, { frames := 0, cells := 0, slots := 0, locals := 0 }, T_Model_childOf)
set_option maxRecDepth 100000 in
theorem ms_Model_childOf : am_MSp a_Model_childOf := am_ms_v 9212 9 9211 110001 8 rfl (by decide +kernel)
abbrev k_Model_childOf : List AC := []
set_option maxRecDepth 100000 in
theorem s_Model_childOf : (am_chkR { frames := 0, cells := 0, slots := 0, locals := 0 } k_Model_childOf && am_chkN c_Model_childOf { frames := 0, cells := 0, slots := 0, locals := 0 } && c_Model_childOf.all (am_chk "LinkHouseModel" prog_10_method_90_code 5 (Option.some Jvm.ClassFile.FieldType.int) k_Model_childOf) && c_Model_childOf.all (am_chkL m_Model_childOf) && decide (m_Model_childOf[0]? = some (0, am_argp 0 [2, 0, 0, 0], [])) && decide (am_argn [2, 0, 0, 0] ≤ 5)) = true := by decide +kernel
set_option maxHeartbeats 150000 in
set_option maxRecDepth 100000 in
theorem h_Model_childOf : ∀ X Q j v σ, B_Model_childOf X Q j v σ → am_at GR k_Model_childOf c_Model_childOf m_Model_childOf X Q 69 j v σ := fun X Q => am_sel_all (P := fun j v σ => am_at GR k_Model_childOf c_Model_childOf m_Model_childOf X Q 69 j v σ) (⟨(am_v4_of (fun t x1 x2 x3 σ h => am_tk (fun e => by subst e; exact fun h => h) h)), ⟨(am_v5_of (fun t x1 x2 x3 x4 σ h => am_tk (fun e => by subst e; exact fun h => h) h)), ⟨(am_v5_of (fun t x1 x2 x3 x4 σ h => am_tk (fun e => by subst e; exact fun h => h) h)), trivial⟩⟩⟩)
set_option maxRecDepth 100000 in
theorem S_Model_childOf (l : Launch) (w : AW) : am_S l w GR a_Model_childOf := am_sound (rt := 0) (cal := k_Model_childOf) 259 y_Model_childOf prog_10_method_90_code 5 (Option.some Jvm.ClassFile.FieldType.int) [2, 0, 0, 0] false { frames := 0, cells := 0, slots := 0, locals := 0 } B_Model_childOf "LinkHouseModel" c_Model_childOf m_Model_childOf 69 ms_Model_childOf (by decide +kernel) rfl rfl (fun _ h => absurd h List.not_mem_nil) s_Model_childOf h_Model_childOf
set_option maxRecDepth 100000 in
theorem of_Model_childOf {Q : Int → AMem → Prop} {x1 x2 x3 : Int} {σ : AMem} (h : ∀ X : Nat → List Int → AMem → Prop, (∀ (x1 x2 x3 : Int) (σ : AMem), B_Model_childOf_0 X Q x1 x2 x3 σ → X 0 [9790, x1, x2, x3] σ) → (∀ (x1 x2 x3 x4 : Int) (σ : AMem), B_Model_childOf_1 X Q x1 x2 x3 x4 σ → X 1 [9790, x1, x2, x3, x4] σ) → (∀ (x1 x2 x3 x4 : Int) (σ : AMem), B_Model_childOf_2 X Q x1 x2 x3 x4 σ → X 2 [9790, x1, x2, x3, x4] σ) → X 0 [9790, x1, x2, x3] σ) : T_Model_childOf [9790, x1, x2, x3] σ Q := fun X hX => h X (fun x1 x2 x3 σ h => hX 0 [9790, x1, x2, x3] σ h) (fun x1 x2 x3 x4 σ h => hX 1 [9790, x1, x2, x3, x4] σ h) (fun x1 x2 x3 x4 σ h => hX 2 [9790, x1, x2, x3, x4] σ h)
def c_Model_nodeOf : List aE := [(0, 1, .iconst 1, 1, 0, 0, []), (1, 0, .istore 4, 2, 0, 0, []), (3, 0, .iload_n 2, 1, 0, 0, []), (4, 0, .iconst 1, 1, 0, 0, []), (5, 0, .isub, 1, 0, 0, []), (6, 0, .istore 5, 2, 0, 0, []), (8, 2, .iload 5, 2, 0, 0, []), (10, 0, .iload_n 1, 1, 0, 0, []), (11, 0, .if_icmp .lt 35, 3, 0, 0, []), (14, 0, .aload_n 0, 1, 0, 0, []), (15, 0, .getfield 17, 3, 8, 6, [2, 0, 6195]), (18, 0, .iload 5, 2, 0, 0, []), (20, 0, .baload, 1, 2, 0, []), (21, 0, .ifCond .eq 25, 3, 0, 0, []), (24, 0, .aload_n 0, 1, 0, 0, []), (25, 0, .iload 4, 2, 0, 0, []), (27, 0, .aload_n 0, 1, 0, 0, []), (28, 0, .getfield 17, 3, 8, 6, [2, 0, 6195]), (31, 0, .iload 5, 2, 0, 0, []), (33, 0, .baload, 1, 2, 0, []), (34, 0, .iload_n 3, 1, 0, 0, []), (35, 0, .invokevirtual 610, 3, 259, 8, [9209]), (38, 0, .istore 4, 2, 0, 0, []), (40, 0, .iinc 5 (-1), 3, 0, 0, []), (43, 0, .goto (-35), 3, 0, 0, []), (46, 0, .iload 4, 2, 0, 0, []), (48, 0, .ireturn, 1, 0, 0, [])]
def m_Model_nodeOf : List aT := [(0, [(0, 2), (1, 0), (2, 0), (3, 0)], []), (8, [(0, 2), (1, 0), (3, 0), (4, 0), (5, 0)], [])]
def B_Model_nodeOf_0 (X : Nat → List Int → AMem → Prop) (Q : Int → AMem → Prop) (x1 x2 x3 : Int) (σ : AMem) : Prop :=
  am_r32 (x2 - 1) ∧ X 1 [9790, x1, x3, 1, (x2 - 1)] σ
def B_Model_nodeOf_1 (X : Nat → List Int → AMem → Prop) (Q : Int → AMem → Prop) (x1 x3 x4 x5 : Int) (σ : AMem) : Prop :=
  (if x5 < x1 then
  Q x4 σ
  else
  0 ≤ x5 ∧ x5 < 65536 ∧ (if (σ 9793 x5) = 0 then
    Q x4 σ
    else
    0 ≤ x5 ∧ x5 < 65536 ∧ T_Model_childOf [9790, x4, (σ 9793 x5), x3] σ (fun r1 σ2 => am_r32 (x5 + (-1)) ∧ X 1 [9790, x1, x3, r1, (x5 + (-1))] σ2)))
def B_Model_nodeOf : (Nat → List Int → AMem → Prop) → (Int → AMem → Prop) → Nat → List Int → AMem → Prop := fun X Q j v σ => am_sel [(am_v4 (fun t x1 x2 x3 σ => if t = 9790 then B_Model_nodeOf_0 X Q x1 x2 x3 σ else False)), (am_v5 (fun t x1 x3 x4 x5 σ => if t = 9790 then B_Model_nodeOf_1 X Q x1 x3 x4 x5 σ else False))] j v σ
def T_Model_nodeOf : List Int → AMem → (Int → AMem → Prop) → Prop := am_T B_Model_nodeOf
abbrev y_Model_nodeOf : MethodName := ⟨"LinkHouseModel", "nodeOf", "(IIZ)I"⟩
def a_Model_nodeOf : AC := (260, (y_Model_nodeOf, prog_10_method_91_code, 6, (Option.some Jvm.ClassFile.FieldType.int)), [2, 0, 0, 0], 0, false, { frames := 1, cells := 0, slots := 0, locals := 32 }, T_Model_nodeOf)
set_option maxRecDepth 100000 in
theorem ms_Model_nodeOf : am_MSp a_Model_nodeOf := am_ms_v 9208 9 9207 110000 8 rfl (by decide +kernel)
abbrev k_Model_nodeOf : List AC := [a_Model_childOf]
set_option maxRecDepth 100000 in
theorem s_Model_nodeOf : (am_chkR { frames := 1, cells := 0, slots := 0, locals := 32 } k_Model_nodeOf && am_chkN c_Model_nodeOf { frames := 1, cells := 0, slots := 0, locals := 32 } && c_Model_nodeOf.all (am_chk "LinkHouseModel" prog_10_method_91_code 6 (Option.some Jvm.ClassFile.FieldType.int) k_Model_nodeOf) && c_Model_nodeOf.all (am_chkL m_Model_nodeOf) && decide (m_Model_nodeOf[0]? = some (0, am_argp 0 [2, 0, 0, 0], [])) && decide (am_argn [2, 0, 0, 0] ≤ 6)) = true := by decide +kernel
set_option maxHeartbeats 150000 in
set_option maxRecDepth 100000 in
theorem h_Model_nodeOf : ∀ X Q j v σ, B_Model_nodeOf X Q j v σ → am_at GR k_Model_nodeOf c_Model_nodeOf m_Model_nodeOf X Q 32 j v σ := fun X Q => am_sel_all (P := fun j v σ => am_at GR k_Model_nodeOf c_Model_nodeOf m_Model_nodeOf X Q 32 j v σ) (⟨(am_v4_of (fun t x1 x2 x3 σ h => am_tk (fun e => by subst e; exact fun h => h) h)), ⟨(am_v5_of (fun t x1 x3 x4 x5 σ h => am_tk (fun e => by subst e; exact fun h => h) h)), trivial⟩⟩)
set_option maxRecDepth 100000 in
theorem S_Model_nodeOf (l : Launch) (w : AW) : am_S l w GR a_Model_nodeOf := am_sound (rt := 0) (cal := k_Model_nodeOf) 260 y_Model_nodeOf prog_10_method_91_code 6 (Option.some Jvm.ClassFile.FieldType.int) [2, 0, 0, 0] false { frames := 1, cells := 0, slots := 0, locals := 32 } B_Model_nodeOf "LinkHouseModel" c_Model_nodeOf m_Model_nodeOf 32 ms_Model_nodeOf (by decide +kernel) rfl rfl (am_cal (S_Model_childOf l w) (fun _ h => absurd h List.not_mem_nil)) s_Model_nodeOf h_Model_nodeOf
set_option maxRecDepth 100000 in
theorem of_Model_nodeOf {Q : Int → AMem → Prop} {x1 x2 x3 : Int} {σ : AMem} (h : ∀ X : Nat → List Int → AMem → Prop, (∀ (x1 x2 x3 : Int) (σ : AMem), B_Model_nodeOf_0 X Q x1 x2 x3 σ → X 0 [9790, x1, x2, x3] σ) → (∀ (x1 x3 x4 x5 : Int) (σ : AMem), B_Model_nodeOf_1 X Q x1 x3 x4 x5 σ → X 1 [9790, x1, x3, x4, x5] σ) → X 0 [9790, x1, x2, x3] σ) : T_Model_nodeOf [9790, x1, x2, x3] σ Q := fun X hX => h X (fun x1 x2 x3 σ h => hX 0 [9790, x1, x2, x3] σ h) (fun x1 x3 x4 x5 σ h => hX 1 [9790, x1, x3, x4, x5] σ h)
