/-! methods: printed by gen/all.py -/
def c_LinkHouse_section : List aE := [(0, 1, .aload_n 0, 1, 0, 0, []), (1, 0, .getfield 84, 3, 0, 24, [0, 0, 1237]), (4, 0, .ifCond .ne 7, 3, 0, 0, []), (7, 0, .iconst 1, 1, 0, 0, []), (8, 0, .goto 4, 3, 0, 0, []), (11, 0, .iconst 0, 1, 0, 0, []), (12, 2, .invokestatic 192, 3, 138, 0, [5161]), (15, 0, .iload_n 1, 1, 0, 0, []), (16, 0, .i2l, 1, 0, 0, []), (17, 0, .lconst 0, 1, 0, 0, []), (18, 0, .aload_n 0, 1, 0, 0, []), (19, 0, .getfield 461, 3, 0, 22, [0, 0, 1235]), (22, 0, .iconst 1, 1, 0, 0, []), (23, 0, .isub, 1, 0, 0, []), (24, 0, .i2l, 1, 0, 0, []), (25, 0, .invokestatic 181, 3, 136, 0, [5092]), (28, 0, .ifCond .eq 19, 3, 0, 0, []), (31, 0, .iload_n 2, 1, 0, 0, []), (32, 0, .i2l, 1, 0, 0, []), (33, 0, .lconst 0, 1, 0, 0, []), (34, 0, .ldc2_w 623, 3, 4, 0, [4049]), (37, 0, .invokestatic 181, 3, 136, 0, [5092]), (40, 0, .ifCond .eq 7, 3, 0, 0, []), (43, 0, .iconst 1, 1, 0, 0, []), (44, 0, .goto 4, 3, 0, 0, []), (47, 3, .iconst 0, 1, 0, 0, []), (48, 4, .invokestatic 902, 3, 166, 0, [6085]), (51, 0, .iload_n 2, 1, 0, 0, []), (52, 0, .ifCond .ne 12, 3, 0, 0, []), (55, 0, .aload_n 0, 1, 0, 0, []), (56, 0, .getfield 56, 3, 0, 11, [2, 0, 1224]), (59, 0, .iload_n 1, 1, 0, 0, []), (60, 0, .iaload, 1, 0, 0, []), (61, 0, .goto 51, 3, 0, 0, []), (64, 0, .iload_n 2, 1, 0, 0, []), (65, 0, .iconst 1, 1, 0, 0, []), (66, 0, .if_icmp .ne 12, 3, 0, 0, []), (69, 0, .aload_n 0, 1, 0, 0, []), (70, 0, .getfield 59, 3, 0, 12, [2, 0, 1225]), (73, 0, .iload_n 1, 1, 0, 0, []), (74, 0, .iaload, 1, 0, 0, []), (75, 0, .goto 37, 3, 0, 0, []), (78, 0, .iload_n 2, 1, 0, 0, []), (79, 0, .iconst 2, 1, 0, 0, []), (80, 0, .if_icmp .ne 12, 3, 0, 0, []), (83, 0, .aload_n 0, 1, 0, 0, []), (84, 0, .getfield 62, 3, 0, 13, [2, 0, 1226]), (87, 0, .iload_n 1, 1, 0, 0, []), (88, 0, .iaload, 1, 0, 0, []), (89, 0, .goto 23, 3, 0, 0, []), (92, 0, .iload_n 2, 1, 0, 0, []), (93, 0, .iconst 3, 1, 0, 0, []), (94, 0, .if_icmp .ne 12, 3, 0, 0, []), (97, 0, .aload_n 0, 1, 0, 0, []), (98, 0, .getfield 65, 3, 0, 14, [2, 0, 1227]), (101, 0, .iload_n 1, 1, 0, 0, []), (102, 0, .iaload, 1, 0, 0, []), (103, 0, .goto 9, 3, 0, 0, []), (106, 0, .aload_n 0, 1, 0, 0, []), (107, 0, .getfield 68, 3, 0, 15, [2, 0, 1228]), (110, 0, .iload_n 1, 1, 0, 0, []), (111, 0, .iaload, 1, 0, 0, []), (112, 0, .ireturn, 1, 0, 0, [])]
def m_LinkHouse_section : List aT := [(0, [(0, 2), (1, 0), (2, 0)], []), (12, [(0, 2), (1, 0), (2, 0)], [0]), (47, [(0, 2), (1, 0), (2, 0)], []), (48, [(0, 2), (1, 0), (2, 0)], [0])]
def B_LinkHouse_section_0 (X : Nat → List Int → AMem → Prop) (Q : Int → AMem → Prop) (x1 x2 : Int) (σ : AMem) : Prop :=
  (if (σ 1 24) = 0 then
  X 1 [1, x1, x2, 1] σ
  else
  X 1 [1, x1, x2, 0] σ)
def B_LinkHouse_section_1 (X : Nat → List Int → AMem → Prop) (Q : Int → AMem → Prop) (x1 x2 s0 : Int) (σ : AMem) : Prop :=
  T_LinkHouse_ready [s0] σ (fun r1 σ2 => am_r32 ((σ2 1 22) - 1) ∧ T_LinkHouse_in [x1, 0, ((σ2 1 22) - 1)] σ2 (fun r3 σ4 => (if r3 = 0 then
  X 2 [1, x1, x2] σ4
  else
  T_LinkHouse_in [x2, 0, 4] σ4 (fun r5 σ6 => (if r5 = 0 then
    X 2 [1, x1, x2] σ6
    else
    X 3 [1, x1, x2, 1] σ6)))))
def B_LinkHouse_section_2 (X : Nat → List Int → AMem → Prop) (Q : Int → AMem → Prop) (x1 x2 : Int) (σ : AMem) : Prop :=
  X 3 [1, x1, x2, 0] σ
def B_LinkHouse_section_3 (X : Nat → List Int → AMem → Prop) (Q : Int → AMem → Prop) (x1 x2 s0 : Int) (σ : AMem) : Prop :=
  T_LinkHouse_there [s0] σ (fun r1 σ2 => (if x2 = 0 then
  0 ≤ x1 ∧ x1 < 1536 ∧ Q (σ2 8283 x1) σ2
  else
  (if x2 = 1 then
    0 ≤ x1 ∧ x1 < 1536 ∧ Q (σ2 8284 x1) σ2
    else
    (if x2 = 2 then
      0 ≤ x1 ∧ x1 < 1536 ∧ Q (σ2 8285 x1) σ2
      else
      (if x2 = 3 then
        0 ≤ x1 ∧ x1 < 1536 ∧ Q (σ2 8286 x1) σ2
        else
        0 ≤ x1 ∧ x1 < 1536 ∧ Q (σ2 8287 x1) σ2)))))
def B_LinkHouse_section : (Nat → List Int → AMem → Prop) → (Int → AMem → Prop) → Nat → List Int → AMem → Prop := fun X Q j v σ => am_sel [(am_v3 (fun t x1 x2 σ => if t = 1 then B_LinkHouse_section_0 X Q x1 x2 σ else False)), (am_v4 (fun t x1 x2 s0 σ => if t = 1 then B_LinkHouse_section_1 X Q x1 x2 s0 σ else False)), (am_v3 (fun t x1 x2 σ => if t = 1 then B_LinkHouse_section_2 X Q x1 x2 σ else False)), (am_v4 (fun t x1 x2 s0 σ => if t = 1 then B_LinkHouse_section_3 X Q x1 x2 s0 σ else False))] j v σ
def T_LinkHouse_section : List Int → AMem → (Int → AMem → Prop) → Prop := am_T B_LinkHouse_section
abbrev y_LinkHouse_section : MethodName := ⟨"LinkHouse", "section", "(II)I"⟩
def a_LinkHouse_section : AC := (176, (y_LinkHouse_section, prog_1_method_100_code, 3, (Option.some Jvm.ClassFile.FieldType.int)), [2, 0, 0], 0, false, { frames := 9, cells := 0, slots := 0, locals := 248 }, T_LinkHouse_section)
set_option maxRecDepth 100000 in
theorem ms_LinkHouse_section : am_MSp a_LinkHouse_section := am_ms_v 6157 1 6155 6156 0 rfl (by decide +kernel)
abbrev k_LinkHouse_section : List AC := [a_LinkHouse_ready, a_LinkHouse_in, a_LinkHouse_there]
set_option maxRecDepth 100000 in
theorem s_LinkHouse_section : (am_chkR { frames := 9, cells := 0, slots := 0, locals := 248 } k_LinkHouse_section && am_chkN c_LinkHouse_section { frames := 9, cells := 0, slots := 0, locals := 248 } && c_LinkHouse_section.all (am_chk "LinkHouse" prog_1_method_100_code 3 (Option.some Jvm.ClassFile.FieldType.int) k_LinkHouse_section) && c_LinkHouse_section.all (am_chkL m_LinkHouse_section) && decide (m_LinkHouse_section[0]? = some (0, am_argp 0 [2, 0, 0], [])) && decide (am_argn [2, 0, 0] ≤ 3)) = true := by decide +kernel
set_option maxHeartbeats 150000 in
set_option maxRecDepth 100000 in
theorem h_LinkHouse_section : ∀ X Q j v σ, B_LinkHouse_section X Q j v σ → am_at GR k_LinkHouse_section c_LinkHouse_section m_LinkHouse_section X Q 68 j v σ := fun X Q => am_sel_all (P := fun j v σ => am_at GR k_LinkHouse_section c_LinkHouse_section m_LinkHouse_section X Q 68 j v σ) (⟨(am_v3_of (fun t x1 x2 σ h => am_tk (fun e => by subst e; exact fun h => h) h)), ⟨(am_v4_of (fun t x1 x2 s0 σ h => am_tk (fun e => by subst e; exact fun h => h) h)), ⟨(am_v3_of (fun t x1 x2 σ h => am_tk (fun e => by subst e; exact fun h => h) h)), ⟨(am_v4_of (fun t x1 x2 s0 σ h => am_tk (fun e => by subst e; exact fun h => h) h)), trivial⟩⟩⟩⟩)
set_option maxRecDepth 100000 in
theorem S_LinkHouse_section (l : Launch) (w : AW) : am_S l w GR a_LinkHouse_section := am_sound (rt := 0) (cal := k_LinkHouse_section) 176 y_LinkHouse_section prog_1_method_100_code 3 (Option.some Jvm.ClassFile.FieldType.int) [2, 0, 0] false { frames := 9, cells := 0, slots := 0, locals := 248 } B_LinkHouse_section "LinkHouse" c_LinkHouse_section m_LinkHouse_section 68 ms_LinkHouse_section (by decide +kernel) rfl rfl (am_cal (S_LinkHouse_ready l w) (am_cal (S_LinkHouse_in l w) (am_cal (S_LinkHouse_there l w) (fun _ h => absurd h List.not_mem_nil)))) s_LinkHouse_section h_LinkHouse_section
set_option maxRecDepth 100000 in
theorem of_LinkHouse_section {Q : Int → AMem → Prop} {x1 x2 : Int} {σ : AMem} (h : ∀ X : Nat → List Int → AMem → Prop, (∀ (x1 x2 : Int) (σ : AMem), B_LinkHouse_section_0 X Q x1 x2 σ → X 0 [1, x1, x2] σ) → (∀ (x1 x2 s0 : Int) (σ : AMem), B_LinkHouse_section_1 X Q x1 x2 s0 σ → X 1 [1, x1, x2, s0] σ) → (∀ (x1 x2 : Int) (σ : AMem), B_LinkHouse_section_2 X Q x1 x2 σ → X 2 [1, x1, x2] σ) → (∀ (x1 x2 s0 : Int) (σ : AMem), B_LinkHouse_section_3 X Q x1 x2 s0 σ → X 3 [1, x1, x2, s0] σ) → X 0 [1, x1, x2] σ) : T_LinkHouse_section [1, x1, x2] σ Q := fun X hX => h X (fun x1 x2 σ h => hX 0 [1, x1, x2] σ h) (fun x1 x2 s0 σ h => hX 1 [1, x1, x2, s0] σ h) (fun x1 x2 σ h => hX 2 [1, x1, x2] σ h) (fun x1 x2 s0 σ h => hX 3 [1, x1, x2, s0] σ h)
def c_LinkHouse_place : List aE := [(0, 1, .aload_n 0, 1, 0, 0, []), (1, 0, .getfield 84, 3, 0, 24, [0, 0, 1237]), (4, 0, .ifCond .ne 7, 3, 0, 0, []), (7, 0, .iconst 1, 1, 0, 0, []), (8, 0, .goto 4, 3, 0, 0, []), (11, 0, .iconst 0, 1, 0, 0, []), (12, 2, .invokestatic 192, 3, 138, 0, [5161]), (15, 0, .iload_n 1, 1, 0, 0, []), (16, 0, .i2l, 1, 0, 0, []), (17, 0, .lconst 0, 1, 0, 0, []), (18, 0, .aload_n 0, 1, 0, 0, []), (19, 0, .getfield 461, 3, 0, 22, [0, 0, 1235]), (22, 0, .iconst 1, 1, 0, 0, []), (23, 0, .isub, 1, 0, 0, []), (24, 0, .i2l, 1, 0, 0, []), (25, 0, .invokestatic 181, 3, 136, 0, [5092]), (28, 0, .invokestatic 902, 3, 166, 0, [6085]), (31, 0, .aload_n 0, 1, 0, 0, []), (32, 0, .getfield 71, 3, 0, 16, [2, 0, 1229]), (35, 0, .iload_n 1, 1, 0, 0, []), (36, 0, .laload, 1, 0, 0, []), (37, 0, .lreturn, 1, 0, 0, [])]
def m_LinkHouse_place : List aT := [(0, [(0, 2), (1, 0)], []), (12, [(0, 2), (1, 0)], [0])]
def B_LinkHouse_place_0 (X : Nat → List Int → AMem → Prop) (Q : Int → AMem → Prop) (x1 : Int) (σ : AMem) : Prop :=
  (if (σ 1 24) = 0 then
  X 1 [1, x1, 1] σ
  else
  X 1 [1, x1, 0] σ)
def B_LinkHouse_place_1 (X : Nat → List Int → AMem → Prop) (Q : Int → AMem → Prop) (x1 s0 : Int) (σ : AMem) : Prop :=
  T_LinkHouse_ready [s0] σ (fun r1 σ2 => am_r32 ((σ2 1 22) - 1) ∧ T_LinkHouse_in [x1, 0, ((σ2 1 22) - 1)] σ2 (fun r3 σ4 => T_LinkHouse_there [r3] σ4 (fun r5 σ6 => 0 ≤ x1 ∧ x1 < 1536 ∧ Q (σ6 8288 x1) σ6)))
def B_LinkHouse_place : (Nat → List Int → AMem → Prop) → (Int → AMem → Prop) → Nat → List Int → AMem → Prop := fun X Q j v σ => am_sel [(am_v2 (fun t x1 σ => if t = 1 then B_LinkHouse_place_0 X Q x1 σ else False)), (am_v3 (fun t x1 s0 σ => if t = 1 then B_LinkHouse_place_1 X Q x1 s0 σ else False))] j v σ
def T_LinkHouse_place : List Int → AMem → (Int → AMem → Prop) → Prop := am_T B_LinkHouse_place
abbrev y_LinkHouse_place : MethodName := ⟨"LinkHouse", "place", "(I)J"⟩
def a_LinkHouse_place : AC := (177, (y_LinkHouse_place, prog_1_method_101_code, 2, (Option.some Jvm.ClassFile.FieldType.long)), [2, 0], 1, false, { frames := 9, cells := 0, slots := 0, locals := 248 }, T_LinkHouse_place)
set_option maxRecDepth 100000 in
theorem ms_LinkHouse_place : am_MSp a_LinkHouse_place := am_ms_v 6164 1 6162 6163 0 rfl (by decide +kernel)
abbrev k_LinkHouse_place : List AC := [a_LinkHouse_ready, a_LinkHouse_in, a_LinkHouse_there]
set_option maxRecDepth 100000 in
theorem s_LinkHouse_place : (am_chkR { frames := 9, cells := 0, slots := 0, locals := 248 } k_LinkHouse_place && am_chkN c_LinkHouse_place { frames := 9, cells := 0, slots := 0, locals := 248 } && c_LinkHouse_place.all (am_chk "LinkHouse" prog_1_method_101_code 2 (Option.some Jvm.ClassFile.FieldType.long) k_LinkHouse_place) && c_LinkHouse_place.all (am_chkL m_LinkHouse_place) && decide (m_LinkHouse_place[0]? = some (0, am_argp 0 [2, 0], [])) && decide (am_argn [2, 0] ≤ 2)) = true := by decide +kernel
set_option maxHeartbeats 150000 in
set_option maxRecDepth 100000 in
theorem h_LinkHouse_place : ∀ X Q j v σ, B_LinkHouse_place X Q j v σ → am_at GR k_LinkHouse_place c_LinkHouse_place m_LinkHouse_place X Q 27 j v σ := fun X Q => am_sel_all (P := fun j v σ => am_at GR k_LinkHouse_place c_LinkHouse_place m_LinkHouse_place X Q 27 j v σ) (⟨(am_v2_of (fun t x1 σ h => am_tk (fun e => by subst e; exact fun h => h) h)), ⟨(am_v3_of (fun t x1 s0 σ h => am_tk (fun e => by subst e; exact fun h => h) h)), trivial⟩⟩)
set_option maxRecDepth 100000 in
theorem S_LinkHouse_place (l : Launch) (w : AW) : am_S l w GR a_LinkHouse_place := am_sound (rt := 1) (cal := k_LinkHouse_place) 177 y_LinkHouse_place prog_1_method_101_code 2 (Option.some Jvm.ClassFile.FieldType.long) [2, 0] false { frames := 9, cells := 0, slots := 0, locals := 248 } B_LinkHouse_place "LinkHouse" c_LinkHouse_place m_LinkHouse_place 27 ms_LinkHouse_place (by decide +kernel) rfl rfl (am_cal (S_LinkHouse_ready l w) (am_cal (S_LinkHouse_in l w) (am_cal (S_LinkHouse_there l w) (fun _ h => absurd h List.not_mem_nil)))) s_LinkHouse_place h_LinkHouse_place
set_option maxRecDepth 100000 in
theorem of_LinkHouse_place {Q : Int → AMem → Prop} {x1 : Int} {σ : AMem} (h : ∀ X : Nat → List Int → AMem → Prop, (∀ (x1 : Int) (σ : AMem), B_LinkHouse_place_0 X Q x1 σ → X 0 [1, x1] σ) → (∀ (x1 s0 : Int) (σ : AMem), B_LinkHouse_place_1 X Q x1 s0 σ → X 1 [1, x1, s0] σ) → X 0 [1, x1] σ) : T_LinkHouse_place [1, x1] σ Q := fun X hX => h X (fun x1 σ h => hX 0 [1, x1] σ h) (fun x1 s0 σ h => hX 1 [1, x1, s0] σ h)
def c_LinkHouse_out : List aE := [(0, 1, .iload_n 1, 1, 0, 0, []), (1, 0, .i2l, 1, 0, 0, []), (2, 0, .lconst 0, 1, 0, 0, []), (3, 0, .aload_n 0, 1, 0, 0, []), (4, 0, .getfield 204, 3, 0, 20, [0, 0, 1233]), (7, 0, .iconst 1, 1, 0, 0, []), (8, 0, .isub, 1, 0, 0, []), (9, 0, .i2l, 1, 0, 0, []), (10, 0, .invokestatic 181, 3, 136, 0, [5092]), (13, 0, .invokestatic 902, 3, 166, 0, [6085]), (16, 0, .lconst 0, 1, 0, 0, []), (17, 0, .lstore_n 2, 1, 0, 0, []), (18, 0, .aload_n 0, 1, 0, 0, []), (19, 0, .getfield 204, 3, 0, 20, [0, 0, 1233]), (22, 0, .iload_n 1, 1, 0, 0, []), (23, 0, .isub, 1, 0, 0, []), (24, 0, .bipush 8, 2, 0, 0, []), (26, 0, .invokestatic 649, 3, 9991, 0, [4071]), (29, 0, .iconst 1, 1, 0, 0, []), (30, 0, .isub, 1, 0, 0, []), (31, 0, .istore 4, 2, 0, 0, []), (33, 2, .iload 4, 2, 0, 0, []), (35, 0, .ifCond .lt 29, 3, 0, 0, []), (38, 0, .lload_n 2, 1, 0, 0, []), (39, 0, .bipush 8, 2, 0, 0, []), (41, 0, .lshl, 1, 0, 0, []), (42, 0, .aload_n 0, 1, 0, 0, []), (43, 0, .getfield 37, 3, 0, 6, [2, 0, 1219]), (46, 0, .iload_n 1, 1, 0, 0, []), (47, 0, .iload 4, 2, 0, 0, []), (49, 0, .iadd, 1, 0, 0, []), (50, 0, .baload, 1, 2, 0, []), (51, 0, .i2l, 1, 0, 0, []), (52, 0, .ldc2_w 930, 3, 255, 0, [6172]), (55, 0, .land, 1, 0, 0, []), (56, 0, .lor, 1, 0, 0, []), (57, 0, .lstore_n 2, 1, 0, 0, []), (58, 0, .iinc 4 (-1), 3, 0, 0, []), (61, 0, .goto (-28), 3, 0, 0, []), (64, 0, .lload_n 2, 1, 0, 0, []), (65, 0, .lreturn, 1, 0, 0, [])]
def m_LinkHouse_out : List aT := [(0, [(0, 2), (1, 0)], []), (33, [(0, 2), (1, 0), (2, 1), (4, 0)], [])]
def B_LinkHouse_out_0 (X : Nat → List Int → AMem → Prop) (Q : Int → AMem → Prop) (x1 : Int) (σ : AMem) : Prop :=
  am_r32 ((σ 1 20) - 1) ∧ T_LinkHouse_in [x1, 0, ((σ 1 20) - 1)] σ (fun r1 σ2 => T_LinkHouse_there [r1] σ2 (fun r3 σ4 => am_r32 ((σ4 1 20) - x1) ∧ am_r32 ((am_min ((σ4 1 20) - x1) 8) - 1) ∧ am_let ((am_min ((σ4 1 20) - x1) 8) - 1) (fun y5 => X 1 [1, x1, 0, y5] σ4)))
def B_LinkHouse_out_1 (X : Nat → List Int → AMem → Prop) (Q : Int → AMem → Prop) (x1 x2 x4 : Int) (σ : AMem) : Prop :=
  (if x4 < 0 then
  Q x2 σ
  else
  am_r32 (x1 + x4) ∧ (if ly_k (σ 1 6) = 2 then 0 ≤ (x1 + x4) ∧ (x1 + x4) < ly_l (σ 1 6) ∧ am_let (l_or (l_shl x2 8) (l_and (σ (σ 1 6) (x1 + x4)) 255)) (fun y1 => am_r32 (x4 + (-1)) ∧ X 1 [1, x1, y1, (x4 + (-1))] σ) else False))
def B_LinkHouse_out : (Nat → List Int → AMem → Prop) → (Int → AMem → Prop) → Nat → List Int → AMem → Prop := fun X Q j v σ => am_sel [(am_v2 (fun t x1 σ => if t = 1 then B_LinkHouse_out_0 X Q x1 σ else False)), (am_v4 (fun t x1 x2 x4 σ => if t = 1 then B_LinkHouse_out_1 X Q x1 x2 x4 σ else False))] j v σ
def T_LinkHouse_out : List Int → AMem → (Int → AMem → Prop) → Prop := am_T B_LinkHouse_out
abbrev y_LinkHouse_out : MethodName := ⟨"LinkHouse", "out", "(I)J"⟩
def a_LinkHouse_out : AC := (178, (y_LinkHouse_out, prog_1_method_105_code, 5, (Option.some Jvm.ClassFile.FieldType.long)), [2, 0], 1, false, { frames := 9, cells := 0, slots := 0, locals := 248 }, T_LinkHouse_out)
set_option maxRecDepth 100000 in
theorem ms_LinkHouse_out : am_MSp a_LinkHouse_out := am_ms_v 6171 1 6169 6170 0 rfl (by decide +kernel)
abbrev k_LinkHouse_out : List AC := [a_LinkHouse_in, a_LinkHouse_there]
set_option maxRecDepth 100000 in
theorem s_LinkHouse_out : (am_chkR { frames := 9, cells := 0, slots := 0, locals := 248 } k_LinkHouse_out && am_chkN c_LinkHouse_out { frames := 9, cells := 0, slots := 0, locals := 248 } && c_LinkHouse_out.all (am_chk "LinkHouse" prog_1_method_105_code 5 (Option.some Jvm.ClassFile.FieldType.long) k_LinkHouse_out) && c_LinkHouse_out.all (am_chkL m_LinkHouse_out) && decide (m_LinkHouse_out[0]? = some (0, am_argp 0 [2, 0], [])) && decide (am_argn [2, 0] ≤ 5)) = true := by decide +kernel
set_option maxHeartbeats 150000 in
set_option maxRecDepth 100000 in
theorem h_LinkHouse_out : ∀ X Q j v σ, B_LinkHouse_out X Q j v σ → am_at GR k_LinkHouse_out c_LinkHouse_out m_LinkHouse_out X Q 46 j v σ := fun X Q => am_sel_all (P := fun j v σ => am_at GR k_LinkHouse_out c_LinkHouse_out m_LinkHouse_out X Q 46 j v σ) (⟨(am_v2_of (fun t x1 σ h => am_tk (fun e => by subst e; exact fun h => h) h)), ⟨(am_v4_of (fun t x1 x2 x4 σ h => am_tk (fun e => by subst e; exact fun h => h) h)), trivial⟩⟩)
set_option maxRecDepth 100000 in
theorem S_LinkHouse_out (l : Launch) (w : AW) : am_S l w GR a_LinkHouse_out := am_sound (rt := 1) (cal := k_LinkHouse_out) 178 y_LinkHouse_out prog_1_method_105_code 5 (Option.some Jvm.ClassFile.FieldType.long) [2, 0] false { frames := 9, cells := 0, slots := 0, locals := 248 } B_LinkHouse_out "LinkHouse" c_LinkHouse_out m_LinkHouse_out 46 ms_LinkHouse_out (by decide +kernel) rfl rfl (am_cal (S_LinkHouse_in l w) (am_cal (S_LinkHouse_there l w) (fun _ h => absurd h List.not_mem_nil))) s_LinkHouse_out h_LinkHouse_out
set_option maxRecDepth 100000 in
theorem of_LinkHouse_out {Q : Int → AMem → Prop} {x1 : Int} {σ : AMem} (h : ∀ X : Nat → List Int → AMem → Prop, (∀ (x1 : Int) (σ : AMem), B_LinkHouse_out_0 X Q x1 σ → X 0 [1, x1] σ) → (∀ (x1 x2 x4 : Int) (σ : AMem), B_LinkHouse_out_1 X Q x1 x2 x4 σ → X 1 [1, x1, x2, x4] σ) → X 0 [1, x1] σ) : T_LinkHouse_out [1, x1] σ Q := fun X hX => h X (fun x1 σ h => hX 0 [1, x1] σ h) (fun x1 x2 x4 σ h => hX 1 [1, x1, x2, x4] σ h)
def c_LinkHouse_look : List aE := [(0, 1, .iload_n 1, 1, 0, 0, []), (1, 0, .i2l, 1, 0, 0, []), (2, 0, .lconst 0, 1, 0, 0, []), (3, 0, .ldc2_w 611, 3, 18, 0, [4091]), (6, 0, .invokestatic 181, 3, 136, 0, [5092]), (9, 0, .invokestatic 185, 3, 137, 0, [5095]), (12, 0, .iload_n 1, 1, 0, 0, []), (13, 0, .tableswitch 237 0 17 #[87, 93, 99, 105, 111, 116, 122, 139, 145, 165, 174, 182, 188, 194, 200, 209, 225, 231], 87, 0, 0, []), (100, 0, .aload_n 0, 1, 0, 0, []), (101, 0, .getfield 195, 3, 0, 18, [0, 0, 1231]), (104, 0, .i2l, 1, 0, 0, []), (105, 0, .lreturn, 1, 0, 0, []), (106, 0, .aload_n 0, 1, 0, 0, []), (107, 0, .getfield 189, 3, 0, 19, [0, 0, 1232]), (110, 0, .i2l, 1, 0, 0, []), (111, 0, .lreturn, 1, 0, 0, []), (112, 0, .aload_n 0, 1, 0, 0, []), (113, 0, .getfield 204, 3, 0, 20, [0, 0, 1233]), (116, 0, .i2l, 1, 0, 0, []), (117, 0, .lreturn, 1, 0, 0, []), (118, 0, .aload_n 0, 1, 0, 0, []), (119, 0, .getfield 84, 3, 0, 24, [0, 0, 1237]), (122, 0, .i2l, 1, 0, 0, []), (123, 0, .lreturn, 1, 0, 0, []), (124, 0, .aload_n 0, 1, 0, 0, []), (125, 0, .getfield 646, 3, 0, 25, [1, 0, 1238]), (128, 0, .lreturn, 1, 0, 0, []), (129, 0, .aload_n 0, 1, 0, 0, []), (130, 0, .getfield 259, 3, 0, 21, [0, 0, 1234]), (133, 0, .i2l, 1, 0, 0, []), (134, 0, .lreturn, 1, 0, 0, []), (135, 0, .aload_n 0, 1, 0, 0, []), (136, 0, .getfield 84, 3, 0, 24, [0, 0, 1237]), (139, 0, .ifCond .ge 7, 3, 0, 0, []), (142, 0, .lconst 0, 1, 0, 0, []), (143, 0, .goto 8, 3, 0, 0, []), (146, 0, .aload_n 0, 1, 0, 0, []), (147, 0, .getfield 461, 3, 0, 22, [0, 0, 1235]), (150, 0, .i2l, 1, 0, 0, []), (151, 0, .lreturn, 1, 0, 0, []), (152, 0, .aload_n 0, 1, 0, 0, []), (153, 0, .getfield 556, 3, 0, 23, [0, 0, 1236]), (156, 0, .i2l, 1, 0, 0, []), (157, 0, .lreturn, 1, 0, 0, []), (158, 0, .aload_n 0, 1, 0, 0, []), (159, 0, .getfield 84, 3, 0, 24, [0, 0, 1237]), (162, 0, .ifCond .ge 7, 3, 0, 0, []), (165, 0, .lconst 0, 1, 0, 0, []), (166, 0, .goto 11, 3, 0, 0, []), (169, 0, .aload_n 0, 1, 0, 0, []), (170, 0, .getfield 25, 3, 0, 3, [2, 0, 1216]), (173, 0, .getfield 380, 3, 2, 3, [0, 0, 198]), (176, 0, .i2l, 1, 0, 0, []), (177, 0, .lreturn, 1, 0, 0, []), (178, 0, .aload_n 0, 1, 0, 0, []), (179, 0, .getfield 12, 3, 0, 0, [2, 0, 1213]), (182, 0, .getfield 932, 3, 1, 9, [0, 0, 45]), (185, 0, .i2l, 1, 0, 0, []), (186, 0, .lreturn, 1, 0, 0, []), (187, 0, .aload_n 0, 1, 0, 0, []), (188, 0, .getfield 12, 3, 0, 0, [2, 0, 1213]), (191, 0, .getfield 933, 3, 1, 12, [1, 0, 49]), (194, 0, .lreturn, 1, 0, 0, []), (195, 0, .aload_n 0, 1, 0, 0, []), (196, 0, .getfield 923, 3, 0, 1, [0, 0, 1214]), (199, 0, .i2l, 1, 0, 0, []), (200, 0, .lreturn, 1, 0, 0, []), (201, 0, .aload_n 0, 1, 0, 0, []), (202, 0, .getfield 315, 3, 0, 41, [0, 0, 2014]), (205, 0, .i2l, 1, 0, 0, []), (206, 0, .lreturn, 1, 0, 0, []), (207, 0, .aload_n 0, 1, 0, 0, []), (208, 0, .getfield 241, 3, 0, 40, [0, 0, 2013]), (211, 0, .i2l, 1, 0, 0, []), (212, 0, .lreturn, 1, 0, 0, []), (213, 0, .aload_n 0, 1, 0, 0, []), (214, 0, .getfield 125, 3, 0, 49, [2, 0, 2022]), (217, 0, .getfield 486, 3, 5, 6, [0, 0, 1027]), (220, 0, .i2l, 1, 0, 0, []), (221, 0, .lreturn, 1, 0, 0, []), (222, 0, .aload_n 0, 1, 0, 0, []), (223, 0, .getfield 84, 3, 0, 24, [0, 0, 1237]), (226, 0, .ifCond .ne 10, 3, 0, 0, []), (229, 0, .aload_n 0, 1, 0, 0, []), (230, 0, .getfield 527, 3, 0, 47, [1, 0, 2020]), (233, 0, .goto 4, 3, 0, 0, []), (236, 0, .lconst 0, 1, 0, 0, []), (237, 0, .lreturn, 1, 0, 0, []), (238, 0, .aload_n 0, 1, 0, 0, []), (239, 0, .getfield 318, 3, 0, 38, [0, 0, 2011]), (242, 0, .i2l, 1, 0, 0, []), (243, 0, .lreturn, 1, 0, 0, []), (244, 0, .aload_n 0, 1, 0, 0, []), (245, 0, .getfield 329, 3, 0, 39, [0, 0, 2012]), (248, 0, .i2l, 1, 0, 0, []), (249, 0, .lreturn, 1, 0, 0, []), (250, 0, .aload_n 0, 1, 0, 0, []), (251, 0, .getfield 12, 3, 0, 0, [2, 0, 1213]), (254, 0, .getfield 936, 3, 1, 17, [0, 0, 56]), (257, 0, .i2l, 1, 0, 0, []), (258, 0, .lreturn, 1, 0, 0, [])]
def m_LinkHouse_look : List aT := [(0, [(0, 2), (1, 0)], [])]
def B_LinkHouse_look_0 (X : Nat → List Int → AMem → Prop) (Q : Int → AMem → Prop) (x1 : Int) (σ : AMem) : Prop :=
  T_LinkHouse_in [x1, 0, 18] σ (fun r1 σ2 => T_LinkHouse_need [r1] σ2 (fun r3 σ4 => (if x1 = 0 then Q (σ4 1 18) σ4
  else (if x1 = 1 then Q (σ4 1 19) σ4
  else (if x1 = 2 then Q (σ4 1 20) σ4
  else (if x1 = 3 then Q (σ4 1 24) σ4
  else (if x1 = 4 then Q (σ4 1 25) σ4
  else (if x1 = 5 then Q (σ4 1 21) σ4
  else (if x1 = 6 then (if (σ4 1 24) < 0 then
    Q 0 σ4
    else
    Q (σ4 1 22) σ4)
  else (if x1 = 7 then Q (σ4 1 23) σ4
  else (if x1 = 8 then (if (σ4 1 24) < 0 then
    Q 0 σ4
    else
    Q (σ4 16 3) σ4)
  else (if x1 = 9 then Q (σ4 2 9) σ4
  else (if x1 = 10 then Q (σ4 2 12) σ4
  else (if x1 = 11 then Q (σ4 1 1) σ4
  else (if x1 = 12 then Q (σ4 1 41) σ4
  else (if x1 = 13 then Q (σ4 1 40) σ4
  else (if x1 = 14 then Q (σ4 8340 6) σ4
  else (if x1 = 15 then (if (σ4 1 24) = 0 then
    Q (σ4 1 47) σ4
    else
    Q 0 σ4)
  else (if x1 = 16 then Q (σ4 1 38) σ4
  else (if x1 = 17 then Q (σ4 1 39) σ4
  else Q (σ4 2 17) σ4))))))))))))))))))))
def B_LinkHouse_look : (Nat → List Int → AMem → Prop) → (Int → AMem → Prop) → Nat → List Int → AMem → Prop := fun X Q j v σ => am_sel [(am_v2 (fun t x1 σ => if t = 1 then B_LinkHouse_look_0 X Q x1 σ else False))] j v σ
def T_LinkHouse_look : List Int → AMem → (Int → AMem → Prop) → Prop := am_T B_LinkHouse_look
abbrev y_LinkHouse_look : MethodName := ⟨"LinkHouse", "look", "(I)J"⟩
def a_LinkHouse_look : AC := (179, (y_LinkHouse_look, prog_1_method_106_code, 2, (Option.some Jvm.ClassFile.FieldType.long)), [2, 0], 1, false, { frames := 9, cells := 0, slots := 0, locals := 248 }, T_LinkHouse_look)
set_option maxRecDepth 100000 in
theorem ms_LinkHouse_look : am_MSp a_LinkHouse_look := am_ms_v 6179 1 6177 6178 0 rfl (by decide +kernel)
abbrev k_LinkHouse_look : List AC := [a_LinkHouse_in, a_LinkHouse_need]
set_option maxRecDepth 100000 in
theorem s_LinkHouse_look : (am_chkR { frames := 9, cells := 0, slots := 0, locals := 248 } k_LinkHouse_look && am_chkN c_LinkHouse_look { frames := 9, cells := 0, slots := 0, locals := 248 } && c_LinkHouse_look.all (am_chk "LinkHouse" prog_1_method_106_code 2 (Option.some Jvm.ClassFile.FieldType.long) k_LinkHouse_look) && c_LinkHouse_look.all (am_chkL m_LinkHouse_look) && decide (m_LinkHouse_look[0]? = some (0, am_argp 0 [2, 0], [])) && decide (am_argn [2, 0] ≤ 2)) = true := by decide +kernel
set_option maxHeartbeats 150000 in
set_option maxRecDepth 100000 in
theorem h_LinkHouse_look : ∀ X Q j v σ, B_LinkHouse_look X Q j v σ → am_at GR k_LinkHouse_look c_LinkHouse_look m_LinkHouse_look X Q 106 j v σ := fun X Q => am_sel_all (P := fun j v σ => am_at GR k_LinkHouse_look c_LinkHouse_look m_LinkHouse_look X Q 106 j v σ) (⟨(am_v2_of (fun t x1 σ h => am_tk (fun e => by subst e; exact fun h => h) h)), trivial⟩)
set_option maxRecDepth 100000 in
theorem S_LinkHouse_look (l : Launch) (w : AW) : am_S l w GR a_LinkHouse_look := am_sound (rt := 1) (cal := k_LinkHouse_look) 179 y_LinkHouse_look prog_1_method_106_code 2 (Option.some Jvm.ClassFile.FieldType.long) [2, 0] false { frames := 9, cells := 0, slots := 0, locals := 248 } B_LinkHouse_look "LinkHouse" c_LinkHouse_look m_LinkHouse_look 106 ms_LinkHouse_look (by decide +kernel) rfl rfl (am_cal (S_LinkHouse_in l w) (am_cal (S_LinkHouse_need l w) (fun _ h => absurd h List.not_mem_nil))) s_LinkHouse_look h_LinkHouse_look
set_option maxRecDepth 100000 in
theorem of_LinkHouse_look {Q : Int → AMem → Prop} {x1 : Int} {σ : AMem} (h : ∀ X : Nat → List Int → AMem → Prop, (∀ (x1 : Int) (σ : AMem), B_LinkHouse_look_0 X Q x1 σ → X 0 [1, x1] σ) → X 0 [1, x1] σ) : T_LinkHouse_look [1, x1] σ Q := fun X hX => h X (fun x1 σ h => hX 0 [1, x1] σ h)
set_option maxRecDepth 100000 in
theorem iff_LinkHouse_look {Q : Int → AMem → Prop} {X : Nat → List Int → AMem → Prop} {x1 : Int} {σ : AMem} : T_LinkHouse_look [1, x1] σ Q ↔ B_LinkHouse_look_0 X Q x1 σ := ⟨fun h => h (fun j v σ => B_LinkHouse_look X Q j v σ) (fun _ _ _ q => q), fun h _ hX => hX 0 _ _ h⟩
