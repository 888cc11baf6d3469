/-! methods: printed by gen/all.py -/
def c_LinkHouse_plain : List aE := [(0, 1, .iload_n 2, 1, 0, 0, []), (1, 0, .ifCond .le 67, 3, 0, 0, []), (4, 0, .aload_n 1, 1, 0, 0, []), (5, 0, .getfield 266, 3, 7, 16, [2, 0, 1100]), (8, 0, .iload_n 2, 1, 0, 0, []), (9, 0, .iaload, 1, 0, 0, []), (10, 0, .ifCond .ne 58, 3, 0, 0, []), (13, 0, .aload_n 1, 1, 0, 0, []), (14, 0, .iload_n 2, 1, 0, 0, []), (15, 0, .invokestatic 657, 3, 77, 0, [4046]), (18, 0, .ldc2_w 660, 3, 15, 0, [4050]), (21, 0, .land, 1, 0, 0, []), (22, 0, .ldc2_w 662, 3, 3, 0, [4051]), (25, 0, .lcmp, 1, 0, 0, []), (26, 0, .ifCond .ne 42, 3, 0, 0, []), (29, 0, .aload_n 1, 1, 0, 0, []), (30, 0, .iload_n 2, 1, 0, 0, []), (31, 0, .invokevirtual 348, 3, 26, 7, [3115]), (34, 0, .ifCond .eq 34, 3, 0, 0, []), (37, 0, .aload_n 1, 1, 0, 0, []), (38, 0, .aload_n 1, 1, 0, 0, []), (39, 0, .getfield 351, 3, 7, 17, [2, 0, 1102]), (42, 0, .iload_n 2, 1, 0, 0, []), (43, 0, .iaload, 1, 0, 0, []), (44, 0, .invokevirtual 433, 3, 42, 7, [3133]), (47, 0, .ifCond .eq 21, 3, 0, 0, []), (50, 0, .aload_n 1, 1, 0, 0, []), (51, 0, .getfield 468, 3, 7, 23, [2, 0, 1115]), (54, 0, .aload_n 1, 1, 0, 0, []), (55, 0, .getfield 351, 3, 7, 17, [2, 0, 1102]), (58, 0, .iload_n 2, 1, 0, 0, []), (59, 0, .iaload, 1, 0, 0, []), (60, 0, .baload, 1, 3, 0, []), (61, 0, .ifCond .eq 7, 3, 0, 0, []), (64, 0, .iconst 1, 1, 0, 0, []), (65, 0, .goto 4, 3, 0, 0, []), (68, 2, .iconst 0, 1, 0, 0, []), (69, 3, .istore 5, 2, 0, 0, []), (71, 0, .iload 5, 2, 0, 0, []), (73, 0, .ifCond .eq 28, 3, 0, 0, []), (76, 0, .aload_n 0, 1, 0, 0, []), (77, 0, .getfield 125, 3, 0, 49, [2, 0, 2022]), (80, 0, .aload_n 1, 1, 0, 0, []), (81, 0, .aload_n 1, 1, 0, 0, []), (82, 0, .getfield 351, 3, 7, 17, [2, 0, 1102]), (85, 0, .iload_n 2, 1, 0, 0, []), (86, 0, .iaload, 1, 0, 0, []), (87, 0, .aload_n 1, 1, 0, 0, []), (88, 0, .getfield 664, 3, 7, 19, [2, 0, 1106]), (91, 0, .iload_n 2, 1, 0, 0, []), (92, 0, .laload, 1, 0, 0, []), (93, 0, .lload_n 3, 1, 0, 0, []), (94, 0, .ladd, 1, 0, 0, []), (95, 0, .invokevirtual 491, 3, 72, 5, [4017]), (98, 0, .goto 11, 3, 0, 0, []), (101, 0, .aload_n 0, 1, 0, 0, []), (102, 0, .aload_n 1, 1, 0, 0, []), (103, 0, .iload_n 2, 1, 0, 0, []), (104, 0, .invokevirtual 637, 3, 80, 0, [4052]), (107, 0, .lload_n 3, 1, 0, 0, []), (108, 0, .ladd, 1, 0, 0, []), (109, 0, .lreturn, 1, 0, 0, [])]
def m_LinkHouse_plain : List aT := [(0, [(0, 2), (1, 2), (2, 0), (3, 1)], []), (68, [(0, 2), (1, 2), (2, 0), (3, 1)], []), (69, [(0, 2), (1, 2), (2, 0), (3, 1)], [0])]
def B_LinkHouse_plain_0 (X : Nat → List Int → AMem → Prop) (Q : Int → AMem → Prop) (x1 x2 x3 : Int) (σ : AMem) : Prop :=
  (if 0 < x2 then
  (if ly_k x1 = 27 then (if ly_k (am_rd GR σ x1 16) = 1 then 0 ≤ x2 ∧ x2 < ly_l (am_rd GR σ x1 16) ∧ (if (σ (am_rd GR σ x1 16) x2) = 0 then
    T_LinkHouse_infoOf [x1, x2] σ (fun r1 σ2 => (if (l_and r1 15) = 3 then
      (if ly_k x1 = 27 then T_Part_isIn [x1, x2] σ2 (fun r3 σ4 => (if r3 = 0 then
        X 1 [1, x1, x2, x3] σ4
        else
        (if ly_k x1 = 27 then (if ly_k (am_rd GR σ4 x1 17) = 1 then 0 ≤ x2 ∧ x2 < ly_l (am_rd GR σ4 x1 17) ∧ (if ly_k x1 = 27 then T_Part_isKept [x1, (σ4 (am_rd GR σ4 x1 17) x2)] σ4 (fun r5 σ6 => (if r5 = 0 then
          X 1 [1, x1, x2, x3] σ6
          else
          (if ly_k x1 = 27 then (if ly_k x1 = 27 then (if ly_k (am_rd GR σ6 x1 17) = 1 then 0 ≤ x2 ∧ x2 < ly_l (am_rd GR σ6 x1 17) ∧ (if ly_k (am_rd GR σ6 x1 23) = 3 then 0 ≤ (σ6 (am_rd GR σ6 x1 17) x2) ∧ (σ6 (am_rd GR σ6 x1 17) x2) < ly_l (am_rd GR σ6 x1 23) ∧ (if (σ6 (am_rd GR σ6 x1 23) (σ6 (am_rd GR σ6 x1 17) x2)) = 0 then
            X 1 [1, x1, x2, x3] σ6
            else
            X 2 [1, x1, x2, x3, 1] σ6) else False) else False) else False) else False))) else False) else False) else False))) else False)
      else
      X 1 [1, x1, x2, x3] σ2))
    else
    X 1 [1, x1, x2, x3] σ) else False) else False)
  else
  X 1 [1, x1, x2, x3] σ)
def B_LinkHouse_plain_1 (X : Nat → List Int → AMem → Prop) (Q : Int → AMem → Prop) (x1 x2 x3 : Int) (σ : AMem) : Prop :=
  X 2 [1, x1, x2, x3, 0] σ
def B_LinkHouse_plain_2 (X : Nat → List Int → AMem → Prop) (Q : Int → AMem → Prop) (x1 x2 x3 s0 : Int) (σ : AMem) : Prop :=
  (if s0 = 0 then
  T_LinkHouse_addressOf [1, x1, x2] σ (fun r1 σ2 => Q (w64 (r1 + x3)) σ2)
  else
  (if ly_k x1 = 27 then (if ly_k (am_rd GR σ x1 17) = 1 then 0 ≤ x2 ∧ x2 < ly_l (am_rd GR σ x1 17) ∧ (if ly_k x1 = 27 then (if ly_k (am_rd GR σ x1 19) = 4 then 0 ≤ x2 ∧ x2 < ly_l (am_rd GR σ x1 19) ∧ T_Pool_addressOf [8340, x1, (σ (am_rd GR σ x1 17) x2), (w64 ((σ (am_rd GR σ x1 19) x2) + x3))] σ (fun r3 σ4 => Q r3 σ4) else False) else False) else False) else False))
def B_LinkHouse_plain : (Nat → List Int → AMem → Prop) → (Int → AMem → Prop) → Nat → List Int → AMem → Prop := fun X Q j v σ => am_sel [(am_v4 (fun t x1 x2 x3 σ => if t = 1 then B_LinkHouse_plain_0 X Q x1 x2 x3 σ else False)), (am_v4 (fun t x1 x2 x3 σ => if t = 1 then B_LinkHouse_plain_1 X Q x1 x2 x3 σ else False)), (am_v5 (fun t x1 x2 x3 s0 σ => if t = 1 then B_LinkHouse_plain_2 X Q x1 x2 x3 s0 σ else False))] j v σ
def T_LinkHouse_plain : List Int → AMem → (Int → AMem → Prop) → Prop := am_T B_LinkHouse_plain
abbrev y_LinkHouse_plain : MethodName := ⟨"LinkHouse", "plain", "(LLinkHouse$Part;IJ)J"⟩
def a_LinkHouse_plain : AC := (81, (y_LinkHouse_plain, prog_1_method_46_code, 6, (Option.some Jvm.ClassFile.FieldType.long)), [2, 2, 0, 1], 1, false, { frames := 7, cells := 0, slots := 0, locals := 226 }, T_LinkHouse_plain)
set_option maxRecDepth 100000 in
theorem ms_LinkHouse_plain : am_MSp a_LinkHouse_plain := am_ms_v 4045 1 4044 102003 0 rfl (by decide +kernel)
abbrev k_LinkHouse_plain : List AC := [a_LinkHouse_infoOf, a_Part_isIn, a_Part_isKept, a_Pool_addressOf, a_LinkHouse_addressOf]
set_option maxRecDepth 100000 in
theorem s_LinkHouse_plain : (am_chkR { frames := 7, cells := 0, slots := 0, locals := 226 } k_LinkHouse_plain && am_chkN c_LinkHouse_plain { frames := 7, cells := 0, slots := 0, locals := 226 } && c_LinkHouse_plain.all (am_chk "LinkHouse" prog_1_method_46_code 6 (Option.some Jvm.ClassFile.FieldType.long) k_LinkHouse_plain) && c_LinkHouse_plain.all (am_chkL m_LinkHouse_plain) && decide (m_LinkHouse_plain[0]? = some (0, am_argp 0 [2, 2, 0, 1], [])) && decide (am_argn [2, 2, 0, 1] ≤ 6)) = true := by decide +kernel
set_option maxHeartbeats 150000 in
set_option maxRecDepth 100000 in
theorem h_LinkHouse_plain : ∀ X Q j v σ, B_LinkHouse_plain X Q j v σ → am_at GR k_LinkHouse_plain c_LinkHouse_plain m_LinkHouse_plain X Q 67 j v σ := fun X Q => am_sel_all (P := fun j v σ => am_at GR k_LinkHouse_plain c_LinkHouse_plain m_LinkHouse_plain X Q 67 j v σ) (⟨(am_v4_of (fun t x1 x2 x3 σ h => am_tk (fun e => by subst e; exact fun h => h) h)), ⟨(am_v4_of (fun t x1 x2 x3 σ h => am_tk (fun e => by subst e; exact fun h => h) h)), ⟨(am_v5_of (fun t x1 x2 x3 s0 σ h => am_tk (fun e => by subst e; exact fun h => h) h)), trivial⟩⟩⟩)
set_option maxRecDepth 100000 in
theorem S_LinkHouse_plain (l : Launch) (w : AW) : am_S l w GR a_LinkHouse_plain := am_sound (rt := 1) (cal := k_LinkHouse_plain) 81 y_LinkHouse_plain prog_1_method_46_code 6 (Option.some Jvm.ClassFile.FieldType.long) [2, 2, 0, 1] false { frames := 7, cells := 0, slots := 0, locals := 226 } B_LinkHouse_plain "LinkHouse" c_LinkHouse_plain m_LinkHouse_plain 67 ms_LinkHouse_plain (by decide +kernel) rfl rfl (am_cal (S_LinkHouse_infoOf l w) (am_cal (S_Part_isIn l w) (am_cal (S_Part_isKept l w) (am_cal (S_Pool_addressOf l w) (am_cal (S_LinkHouse_addressOf l w) (fun _ h => absurd h List.not_mem_nil)))))) s_LinkHouse_plain h_LinkHouse_plain
set_option maxRecDepth 100000 in
theorem of_LinkHouse_plain {Q : Int → AMem → Prop} {x1 x2 x3 : Int} {σ : AMem} (h : ∀ X : Nat → List Int → AMem → Prop, (∀ (x1 x2 x3 : Int) (σ : AMem), B_LinkHouse_plain_0 X Q x1 x2 x3 σ → X 0 [1, x1, x2, x3] σ) → (∀ (x1 x2 x3 : Int) (σ : AMem), B_LinkHouse_plain_1 X Q x1 x2 x3 σ → X 1 [1, x1, x2, x3] σ) → (∀ (x1 x2 x3 s0 : Int) (σ : AMem), B_LinkHouse_plain_2 X Q x1 x2 x3 s0 σ → X 2 [1, x1, x2, x3, s0] σ) → X 0 [1, x1, x2, x3] σ) : T_LinkHouse_plain [1, x1, x2, x3] σ Q := fun X hX => h X (fun x1 x2 x3 σ h => hX 0 [1, x1, x2, x3] σ h) (fun x1 x2 x3 σ h => hX 1 [1, x1, x2, x3] σ h) (fun x1 x2 x3 s0 σ h => hX 2 [1, x1, x2, x3, s0] σ h)
def c_Part_width : List aE := [(0, 1, .iload_n 0, 1, 0, 0, []), (1, 0, .iconst 1, 1, 0, 0, []), (2, 0, .if_icmp .eq 9, 3, 0, 0, []), (5, 0, .iload_n 0, 1, 0, 0, []), (6, 0, .bipush 18, 2, 0, 0, []), (8, 0, .if_icmp .ne 8, 3, 0, 0, []), (11, 0, .bipush 8, 2, 0, 0, []), (13, 0, .goto 51, 3, 0, 0, []), (16, 0, .iload_n 0, 1, 0, 0, []), (17, 0, .ifCond .ne 7, 3, 0, 0, []), (20, 0, .iconst 0, 1, 0, 0, []), (21, 0, .goto 43, 3, 0, 0, []), (24, 0, .iload_n 0, 1, 0, 0, []), (25, 0, .iconst 2, 1, 0, 0, []), (26, 0, .if_icmp .eq 33, 3, 0, 0, []), (29, 0, .iload_n 0, 1, 0, 0, []), (30, 0, .iconst 4, 1, 0, 0, []), (31, 0, .if_icmp .eq 28, 3, 0, 0, []), (34, 0, .iload_n 0, 1, 0, 0, []), (35, 0, .bipush 10, 2, 0, 0, []), (37, 0, .if_icmp .eq 22, 3, 0, 0, []), (40, 0, .iload_n 0, 1, 0, 0, []), (41, 0, .bipush 11, 2, 0, 0, []), (43, 0, .if_icmp .eq 16, 3, 0, 0, []), (46, 0, .iload_n 0, 1, 0, 0, []), (47, 0, .bipush 23, 2, 0, 0, []), (49, 0, .if_icmp .eq 10, 3, 0, 0, []), (52, 0, .iload_n 0, 1, 0, 0, []), (53, 0, .invokestatic 205, 3, 56, 0, [4070]), (56, 0, .ifCond .eq 7, 3, 0, 0, []), (59, 0, .iconst 4, 1, 0, 0, []), (60, 0, .goto 4, 3, 0, 0, []), (63, 0, .iconst (-1), 1, 0, 0, []), (64, 0, .ireturn, 1, 0, 0, [])]
def m_Part_width : List aT := [(0, [(0, 0)], [])]
def B_Part_width_0 (X : Nat → List Int → AMem → Prop) (Q : Int → AMem → Prop) (x0 : Int) (σ : AMem) : Prop :=
  (if x0 = 1 then
  Q 8 σ
  else
  (if x0 = 18 then
    Q 8 σ
    else
    (if x0 = 0 then
      Q 0 σ
      else
      (if x0 = 2 then
        Q 4 σ
        else
        (if x0 = 4 then
          Q 4 σ
          else
          (if x0 = 10 then
            Q 4 σ
            else
            (if x0 = 11 then
              Q 4 σ
              else
              (if x0 = 23 then
                Q 4 σ
                else
                T_Part_bySlot [x0] σ (fun r1 σ2 => (if r1 = 0 then
                  Q (-1) σ2
                  else
                  Q 4 σ2))))))))))
def B_Part_width : (Nat → List Int → AMem → Prop) → (Int → AMem → Prop) → Nat → List Int → AMem → Prop := fun X Q j v σ => am_sel [(am_v1 (fun x0 σ => B_Part_width_0 X Q x0 σ))] j v σ
def T_Part_width : List Int → AMem → (Int → AMem → Prop) → Prop := am_T B_Part_width
abbrev y_Part_width : MethodName := ⟨"LinkHouse$Part", "width", "(I)I"⟩
def a_Part_width : AC := (82, (y_Part_width, prog_6_method_17_code, 1, (Option.some Jvm.ClassFile.FieldType.int)), [0], 0, true, { frames := 1, cells := 0, slots := 0, locals := 28 }, T_Part_width)
set_option maxRecDepth 100000 in
theorem ms_Part_width : am_MSp a_Part_width := am_ms_s 4069 8 4068 rfl (by decide +kernel)
abbrev k_Part_width : List AC := [a_Part_bySlot]
set_option maxRecDepth 100000 in
theorem s_Part_width : (am_chkR { frames := 1, cells := 0, slots := 0, locals := 28 } k_Part_width && am_chkN c_Part_width { frames := 1, cells := 0, slots := 0, locals := 28 } && c_Part_width.all (am_chk "LinkHouse$Part" prog_6_method_17_code 1 (Option.some Jvm.ClassFile.FieldType.int) k_Part_width) && c_Part_width.all (am_chkL m_Part_width) && decide (m_Part_width[0]? = some (0, am_argp 0 [0], [])) && decide (am_argn [0] ≤ 1)) = true := by decide +kernel
set_option maxHeartbeats 150000 in
set_option maxRecDepth 100000 in
theorem h_Part_width : ∀ X Q j v σ, B_Part_width X Q j v σ → am_at GR k_Part_width c_Part_width m_Part_width X Q 39 j v σ := fun X Q => am_sel_all (P := fun j v σ => am_at GR k_Part_width c_Part_width m_Part_width X Q 39 j v σ) (⟨(am_v1_of (fun x0 σ h => h)), trivial⟩)
set_option maxRecDepth 100000 in
theorem S_Part_width (l : Launch) (w : AW) : am_S l w GR a_Part_width := am_sound (rt := 0) (cal := k_Part_width) 82 y_Part_width prog_6_method_17_code 1 (Option.some Jvm.ClassFile.FieldType.int) [0] true { frames := 1, cells := 0, slots := 0, locals := 28 } B_Part_width "LinkHouse$Part" c_Part_width m_Part_width 39 ms_Part_width (by decide +kernel) rfl rfl (am_cal (S_Part_bySlot l w) (fun _ h => absurd h List.not_mem_nil)) s_Part_width h_Part_width
set_option maxRecDepth 100000 in
theorem of_Part_width {Q : Int → AMem → Prop} {x0 : Int} {σ : AMem} (h : ∀ X : Nat → List Int → AMem → Prop, (∀ (x0 : Int) (σ : AMem), B_Part_width_0 X Q x0 σ → X 0 [x0] σ) → X 0 [x0] σ) : T_Part_width [x0] σ Q := fun X hX => h X (fun x0 σ h => hX 0 [x0] σ h)
set_option maxRecDepth 100000 in
theorem iff_Part_width {Q : Int → AMem → Prop} {X : Nat → List Int → AMem → Prop} {x0 : Int} {σ : AMem} : T_Part_width [x0] σ Q ↔ B_Part_width_0 X Q x0 σ := ⟨fun h => h (fun j v σ => B_Part_width X Q j v σ) (fun _ _ _ q => q), fun h _ hX => hX 0 _ _ h⟩
def c_LinkHouse_put : List aE := [(0, 1, .iconst 0, 1, 0, 0, []), (1, 0, .istore 6, 2, 0, 0, []), (3, 2, .iload 6, 2, 0, 0, []), (5, 0, .iload_n 3, 1, 0, 0, []), (6, 0, .if_icmp .ge 29, 3, 0, 0, []), (9, 0, .aload_n 0, 1, 0, 0, []), (10, 0, .getfield 34, 3, 0, 5, [2, 0, 1218]), (13, 0, .lload_n 1, 1, 0, 0, []), (14, 0, .l2i, 1, 0, 0, []), (15, 0, .iload 6, 2, 0, 0, []), (17, 0, .iadd, 1, 0, 0, []), (18, 0, .lload 4, 2, 0, 0, []), (20, 0, .bipush 8, 2, 0, 0, []), (22, 0, .iload 6, 2, 0, 0, []), (24, 0, .imul, 1, 0, 0, []), (25, 0, .lshr, 1, 0, 0, []), (26, 0, .l2i, 1, 0, 0, []), (27, 0, .i2b, 1, 0, 0, []), (28, 0, .bastore, 1, 2, 0, []), (29, 0, .iinc 6 1, 3, 0, 0, []), (32, 0, .goto (-29), 3, 0, 0, []), (35, 0, .return_, 1, 0, 0, [])]
def m_LinkHouse_put : List aT := [(0, [(0, 2), (1, 1), (3, 0), (4, 1)], []), (3, [(0, 2), (1, 1), (3, 0), (4, 1), (6, 0)], [])]
def B_LinkHouse_put_0 (X : Nat → List Int → AMem → Prop) (Q : Int → AMem → Prop) (x1 x3 x4 : Int) (σ : AMem) : Prop :=
  X 1 [1, x1, x3, x4, 0] σ
def B_LinkHouse_put_1 (X : Nat → List Int → AMem → Prop) (Q : Int → AMem → Prop) (x1 x3 x4 x6 : Int) (σ : AMem) : Prop :=
  (if x6 < x3 then
  am_r32 ((w32 x1) + x6) ∧ am_r32 (8 * x6) ∧ (if ly_k (σ 1 5) = 2 then 0 ≤ ((w32 x1) + x6) ∧ ((w32 x1) + x6) < ly_l (σ 1 5) ∧ am_let (am_upd σ (σ 1 5) ((w32 x1) + x6) (w8 (w8 (w32 (l_shr x4 (8 * x6)))))) (fun σ1 => am_r32 (x6 + 1) ∧ X 1 [1, x1, x3, x4, (x6 + 1)] σ1) else False)
  else
  Q 0 σ)
def B_LinkHouse_put : (Nat → List Int → AMem → Prop) → (Int → AMem → Prop) → Nat → List Int → AMem → Prop := fun X Q j v σ => am_sel [(am_v4 (fun t x1 x3 x4 σ => if t = 1 then B_LinkHouse_put_0 X Q x1 x3 x4 σ else False)), (am_v5 (fun t x1 x3 x4 x6 σ => if t = 1 then B_LinkHouse_put_1 X Q x1 x3 x4 x6 σ else False))] j v σ
def T_LinkHouse_put : List Int → AMem → (Int → AMem → Prop) → Prop := am_T B_LinkHouse_put
abbrev y_LinkHouse_put : MethodName := ⟨"LinkHouse", "put", "(JIJ)V"⟩
def a_LinkHouse_put : AC := (83, (y_LinkHouse_put, prog_1_method_41_code, 7, (Option.none : Option Jvm.ClassFile.FieldType)), [2, 1, 0, 1], 3, false, { frames := 0, cells := 0, slots := 0, locals := 0 }, T_LinkHouse_put)
set_option maxRecDepth 100000 in
theorem ms_LinkHouse_put : am_MSp a_LinkHouse_put := am_ms_v 4082 1 4081 102006 0 rfl (by decide +kernel)
abbrev k_LinkHouse_put : List AC := []
set_option maxRecDepth 100000 in
theorem s_LinkHouse_put : (am_chkR { frames := 0, cells := 0, slots := 0, locals := 0 } k_LinkHouse_put && am_chkN c_LinkHouse_put { frames := 0, cells := 0, slots := 0, locals := 0 } && c_LinkHouse_put.all (am_chk "LinkHouse" prog_1_method_41_code 7 (Option.none : Option Jvm.ClassFile.FieldType) k_LinkHouse_put) && c_LinkHouse_put.all (am_chkL m_LinkHouse_put) && decide (m_LinkHouse_put[0]? = some (0, am_argp 0 [2, 1, 0, 1], [])) && decide (am_argn [2, 1, 0, 1] ≤ 7)) = true := by decide +kernel
set_option maxHeartbeats 150000 in
set_option maxRecDepth 100000 in
theorem h_LinkHouse_put : ∀ X Q j v σ, B_LinkHouse_put X Q j v σ → am_at GR k_LinkHouse_put c_LinkHouse_put m_LinkHouse_put X Q 27 j v σ := fun X Q => am_sel_all (P := fun j v σ => am_at GR k_LinkHouse_put c_LinkHouse_put m_LinkHouse_put X Q 27 j v σ) (⟨(am_v4_of (fun t x1 x3 x4 σ h => am_tk (fun e => by subst e; exact fun h => h) h)), ⟨(am_v5_of (fun t x1 x3 x4 x6 σ h => am_tk (fun e => by subst e; exact fun h => h) h)), trivial⟩⟩)
set_option maxRecDepth 100000 in
theorem S_LinkHouse_put (l : Launch) (w : AW) : am_S l w GR a_LinkHouse_put := am_sound (rt := 3) (cal := k_LinkHouse_put) 83 y_LinkHouse_put prog_1_method_41_code 7 (Option.none : Option Jvm.ClassFile.FieldType) [2, 1, 0, 1] false { frames := 0, cells := 0, slots := 0, locals := 0 } B_LinkHouse_put "LinkHouse" c_LinkHouse_put m_LinkHouse_put 27 ms_LinkHouse_put (by decide +kernel) rfl rfl (fun _ h => absurd h List.not_mem_nil) s_LinkHouse_put h_LinkHouse_put
set_option maxRecDepth 100000 in
theorem of_LinkHouse_put {Q : Int → AMem → Prop} {x1 x3 x4 : Int} {σ : AMem} (h : ∀ X : Nat → List Int → AMem → Prop, (∀ (x1 x3 x4 : Int) (σ : AMem), B_LinkHouse_put_0 X Q x1 x3 x4 σ → X 0 [1, x1, x3, x4] σ) → (∀ (x1 x3 x4 x6 : Int) (σ : AMem), B_LinkHouse_put_1 X Q x1 x3 x4 x6 σ → X 1 [1, x1, x3, x4, x6] σ) → X 0 [1, x1, x3, x4] σ) : T_LinkHouse_put [1, x1, x3, x4] σ Q := fun X hX => h X (fun x1 x3 x4 σ h => hX 0 [1, x1, x3, x4] σ h) (fun x1 x3 x4 x6 σ h => hX 1 [1, x1, x3, x4, x6] σ h)
def c_LinkHouse_shorten : List aE := [(0, 1, .aload_n 3, 1, 0, 0, []), (1, 0, .iload 4, 2, 0, 0, []), (3, 0, .lload 5, 2, 0, 0, []), (5, 0, .ldc2_w 440, 3, 2, 0, [3200]), (8, 0, .invokestatic 445, 3, 59, 0, [3207]), (11, 0, .sipush 139, 3, 0, 0, []), (14, 0, .if_icmp .ne 19, 3, 0, 0, []), (17, 0, .aload_n 0, 1, 0, 0, []), (18, 0, .lload_n 1, 1, 0, 0, []), (19, 0, .ldc2_w 440, 3, 2, 0, [3200]), (22, 0, .lsub, 1, 0, 0, []), (23, 0, .iconst 1, 1, 0, 0, []), (24, 0, .ldc2_w 667, 3, 141, 0, [4078]), (27, 0, .invokevirtual 607, 3, 83, 0, [4079]), (30, 0, .goto 59, 3, 0, 0, []), (33, 0, .aload_n 3, 1, 0, 0, []), (34, 0, .iload 4, 2, 0, 0, []), (36, 0, .lload 5, 2, 0, 0, []), (38, 0, .lconst 1, 1, 0, 0, []), (39, 0, .invokestatic 445, 3, 59, 0, [3207]), (42, 0, .bipush 21, 2, 0, 0, []), (44, 0, .if_icmp .ne 19, 3, 0, 0, []), (47, 0, .aload_n 0, 1, 0, 0, []), (48, 0, .lload_n 1, 1, 0, 0, []), (49, 0, .ldc2_w 440, 3, 2, 0, [3200]), (52, 0, .lsub, 1, 0, 0, []), (53, 0, .iconst 2, 1, 0, 0, []), (54, 0, .ldc2_w 669, 3, 59495, 0, [4083]), (57, 0, .invokevirtual 607, 3, 83, 0, [4079]), (60, 0, .goto 29, 3, 0, 0, []), (63, 0, .aload_n 0, 1, 0, 0, []), (64, 0, .lload_n 1, 1, 0, 0, []), (65, 0, .ldc2_w 440, 3, 2, 0, [3200]), (68, 0, .lsub, 1, 0, 0, []), (69, 0, .iconst 1, 1, 0, 0, []), (70, 0, .ldc2_w 671, 3, 233, 0, [4084]), (73, 0, .invokevirtual 607, 3, 83, 0, [4079]), (76, 0, .aload_n 0, 1, 0, 0, []), (77, 0, .lload_n 1, 1, 0, 0, []), (78, 0, .ldc2_w 662, 3, 3, 0, [4051]), (81, 0, .ladd, 1, 0, 0, []), (82, 0, .iconst 1, 1, 0, 0, []), (83, 0, .ldc2_w 673, 3, 144, 0, [4085]), (86, 0, .invokevirtual 607, 3, 83, 0, [4079]), (89, 0, .return_, 1, 0, 0, [])]
def m_LinkHouse_shorten : List aT := [(0, [(0, 2), (1, 1), (3, 2), (4, 0), (5, 1)], [])]
def B_LinkHouse_shorten_0 (X : Nat → List Int → AMem → Prop) (Q : Int → AMem → Prop) (x1 x3 x4 x5 : Int) (σ : AMem) : Prop :=
  T_LinkHouse_ahead [x3, x4, x5, 2] σ (fun r1 σ2 => (if r1 = 139 then
  T_LinkHouse_put [1, (w64 (x1 - 2)), 1, 141] σ2 (fun r11 σ12 => Q 0 σ12)
  else
  T_LinkHouse_ahead [x3, x4, x5, 1] σ2 (fun r3 σ4 => (if r3 = 21 then
    T_LinkHouse_put [1, (w64 (x1 - 2)), 2, 59495] σ4 (fun r9 σ10 => Q 0 σ10)
    else
    T_LinkHouse_put [1, (w64 (x1 - 2)), 1, 233] σ4 (fun r5 σ6 => T_LinkHouse_put [1, (w64 (x1 + 3)), 1, 144] σ6 (fun r7 σ8 => Q 0 σ8))))))
def B_LinkHouse_shorten : (Nat → List Int → AMem → Prop) → (Int → AMem → Prop) → Nat → List Int → AMem → Prop := fun X Q j v σ => am_sel [(am_v5 (fun t x1 x3 x4 x5 σ => if t = 1 then B_LinkHouse_shorten_0 X Q x1 x3 x4 x5 σ else False))] j v σ
def T_LinkHouse_shorten : List Int → AMem → (Int → AMem → Prop) → Prop := am_T B_LinkHouse_shorten
abbrev y_LinkHouse_shorten : MethodName := ⟨"LinkHouse", "shorten", "(JLLinkHouse$Part;IJ)V"⟩
def a_LinkHouse_shorten : AC := (84, (y_LinkHouse_shorten, prog_1_method_47_code, 7, (Option.none : Option Jvm.ClassFile.FieldType)), [2, 1, 2, 0, 1], 3, false, { frames := 2, cells := 0, slots := 0, locals := 67 }, T_LinkHouse_shorten)
set_option maxRecDepth 100000 in
theorem ms_LinkHouse_shorten : am_MSp a_LinkHouse_shorten := am_ms_v 4077 1 4076 102005 0 rfl (by decide +kernel)
abbrev k_LinkHouse_shorten : List AC := [a_LinkHouse_ahead, a_LinkHouse_put]
set_option maxRecDepth 100000 in
theorem s_LinkHouse_shorten : (am_chkR { frames := 2, cells := 0, slots := 0, locals := 67 } k_LinkHouse_shorten && am_chkN c_LinkHouse_shorten { frames := 2, cells := 0, slots := 0, locals := 67 } && c_LinkHouse_shorten.all (am_chk "LinkHouse" prog_1_method_47_code 7 (Option.none : Option Jvm.ClassFile.FieldType) k_LinkHouse_shorten) && c_LinkHouse_shorten.all (am_chkL m_LinkHouse_shorten) && decide (m_LinkHouse_shorten[0]? = some (0, am_argp 0 [2, 1, 2, 0, 1], [])) && decide (am_argn [2, 1, 2, 0, 1] ≤ 7)) = true := by decide +kernel
set_option maxHeartbeats 150000 in
set_option maxRecDepth 100000 in
theorem h_LinkHouse_shorten : ∀ X Q j v σ, B_LinkHouse_shorten X Q j v σ → am_at GR k_LinkHouse_shorten c_LinkHouse_shorten m_LinkHouse_shorten X Q 50 j v σ := fun X Q => am_sel_all (P := fun j v σ => am_at GR k_LinkHouse_shorten c_LinkHouse_shorten m_LinkHouse_shorten X Q 50 j v σ) (⟨(am_v5_of (fun t x1 x3 x4 x5 σ h => am_tk (fun e => by subst e; exact fun h => h) h)), trivial⟩)
set_option maxRecDepth 100000 in
theorem S_LinkHouse_shorten (l : Launch) (w : AW) : am_S l w GR a_LinkHouse_shorten := am_sound (rt := 3) (cal := k_LinkHouse_shorten) 84 y_LinkHouse_shorten prog_1_method_47_code 7 (Option.none : Option Jvm.ClassFile.FieldType) [2, 1, 2, 0, 1] false { frames := 2, cells := 0, slots := 0, locals := 67 } B_LinkHouse_shorten "LinkHouse" c_LinkHouse_shorten m_LinkHouse_shorten 50 ms_LinkHouse_shorten (by decide +kernel) rfl rfl (am_cal (S_LinkHouse_ahead l w) (am_cal (S_LinkHouse_put l w) (fun _ h => absurd h List.not_mem_nil))) s_LinkHouse_shorten h_LinkHouse_shorten
set_option maxRecDepth 100000 in
theorem of_LinkHouse_shorten {Q : Int → AMem → Prop} {x1 x3 x4 x5 : Int} {σ : AMem} (h : ∀ X : Nat → List Int → AMem → Prop, (∀ (x1 x3 x4 x5 : Int) (σ : AMem), B_LinkHouse_shorten_0 X Q x1 x3 x4 x5 σ → X 0 [1, x1, x3, x4, x5] σ) → X 0 [1, x1, x3, x4, x5] σ) : T_LinkHouse_shorten [1, x1, x3, x4, x5] σ Q := fun X hX => h X (fun x1 x3 x4 x5 σ h => hX 0 [1, x1, x3, x4, x5] σ h)
set_option maxRecDepth 100000 in
theorem iff_LinkHouse_shorten {Q : Int → AMem → Prop} {X : Nat → List Int → AMem → Prop} {x1 x3 x4 x5 : Int} {σ : AMem} : T_LinkHouse_shorten [1, x1, x3, x4, x5] σ Q ↔ B_LinkHouse_shorten_0 X Q x1 x3 x4 x5 σ := ⟨fun h => h (fun j v σ => B_LinkHouse_shorten X Q j v σ) (fun _ _ _ q => q), fun h _ hX => hX 0 _ _ h⟩
def c_LinkHouse_fillSite : List aE := [(0, 1, .aload_n 1, 1, 0, 0, []), (1, 0, .lload_n 3, 1, 0, 0, []), (2, 0, .ldc2_w 179, 3, 8, 0, [3127]), (5, 0, .ladd, 1, 0, 0, []), (6, 0, .iconst 4, 1, 0, 0, []), (7, 0, .invokevirtual 404, 3, 11, 7, [3126]), (10, 0, .l2i, 1, 0, 0, []), (11, 0, .istore 5, 2, 0, 0, []), (13, 0, .aload_n 1, 1, 0, 0, []), (14, 0, .lload_n 3, 1, 0, 0, []), (15, 0, .ldc2_w 402, 3, 12, 0, [3125]), (18, 0, .ladd, 1, 0, 0, []), (19, 0, .iconst 4, 1, 0, 0, []), (20, 0, .invokevirtual 404, 3, 11, 7, [3126]), (23, 0, .l2i, 1, 0, 0, []), (24, 0, .istore 6, 2, 0, 0, []), (26, 0, .iload 5, 2, 0, 0, []), (28, 0, .ifCond .ne 5, 3, 0, 0, []), (31, 0, .iconst 1, 1, 0, 0, []), (32, 0, .ireturn, 1, 1, 0, []), (33, 0, .aload_n 1, 1, 0, 0, []), (34, 0, .getfield 494, 3, 7, 15, [2, 0, 1098]), (37, 0, .iload_n 2, 1, 0, 0, []), (38, 0, .laload, 1, 0, 0, []), (39, 0, .aload_n 1, 1, 0, 0, []), (40, 0, .lload_n 3, 1, 0, 0, []), (41, 0, .bipush 8, 2, 0, 0, []), (43, 0, .invokevirtual 404, 3, 11, 7, [3126]), (46, 0, .ladd, 1, 0, 0, []), (47, 0, .lstore 7, 2, 0, 0, []), (49, 0, .aload_n 1, 1, 0, 0, []), (50, 0, .iload_n 2, 1, 0, 0, []), (51, 0, .lload_n 3, 1, 0, 0, []), (52, 0, .invokestatic 411, 3, 60, 0, [3195]), (55, 0, .istore 9, 2, 0, 0, []), (57, 0, .iload 5, 2, 0, 0, []), (59, 0, .invokestatic 408, 3, 56, 0, [3192]), (62, 0, .ifCond .eq 12, 3, 0, 0, []), (65, 0, .iload 9, 2, 0, 0, []), (67, 0, .ifCond .ne 7, 3, 0, 0, []), (70, 0, .iconst 1, 1, 0, 0, []), (71, 0, .goto 4, 3, 0, 0, []), (74, 2, .iconst 0, 1, 0, 0, []), (75, 3, .istore 10, 2, 0, 0, []), (77, 0, .iload 10, 2, 0, 0, []), (79, 0, .ifCond .eq 46, 3, 0, 0, []), (82, 0, .aload_n 0, 1, 0, 0, []), (83, 0, .getfield 548, 3, 0, 42, [1, 0, 2015]), (86, 0, .ldc2_w 179, 3, 8, 0, [3127]), (89, 0, .aload_n 1, 1, 0, 0, []), (90, 0, .iload 6, 2, 0, 0, []), (92, 0, .iload 5, 2, 0, 0, []), (94, 0, .bipush 22, 2, 0, 0, []), (96, 0, .if_icmp .ne 7, 3, 0, 0, []), (99, 0, .iconst 1, 1, 0, 0, []), (100, 0, .goto 4, 3, 0, 0, []), (103, 0, .iconst 0, 1, 0, 0, []), (104, 4, .invokestatic 419, 3, 61, 0, [3214]), (107, 0, .i2l, 1, 0, 0, []), (108, 0, .lmul, 1, 0, 0, []), (109, 0, .ladd, 1, 0, 0, []), (110, 0, .aload_n 1, 1, 0, 0, []), (111, 0, .lload_n 3, 1, 0, 0, []), (112, 0, .ldc2_w 436, 3, 16, 0, [3198]), (115, 0, .ladd, 1, 0, 0, []), (116, 0, .bipush 8, 2, 0, 0, []), (118, 0, .invokevirtual 404, 3, 11, 7, [3126]), (121, 0, .ladd, 1, 0, 0, []), (122, 0, .goto 63, 3, 0, 0, []), (125, 0, .iload 5, 2, 0, 0, []), (127, 0, .iconst 1, 1, 0, 0, []), (128, 0, .if_icmp .eq 17, 3, 0, 0, []), (131, 0, .iload 5, 2, 0, 0, []), (133, 0, .bipush 10, 2, 0, 0, []), (135, 0, .if_icmp .eq 10, 3, 0, 0, []), (138, 0, .iload 5, 2, 0, 0, []), (140, 0, .bipush 11, 2, 0, 0, []), (142, 0, .if_icmp .ne 24, 3, 0, 0, []), (145, 5, .aload_n 0, 1, 0, 0, []), (146, 0, .aload_n 1, 1, 0, 0, []), (147, 0, .iload 6, 2, 0, 0, []), (149, 0, .aload_n 1, 1, 0, 0, []), (150, 0, .lload_n 3, 1, 0, 0, []), (151, 0, .ldc2_w 436, 3, 16, 0, [3198]), (154, 0, .ladd, 1, 0, 0, []), (155, 0, .bipush 8, 2, 0, 0, []), (157, 0, .invokevirtual 404, 3, 11, 7, [3126]), (160, 0, .invokevirtual 640, 3, 81, 0, [4042]), (163, 0, .goto 22, 3, 0, 0, []), (166, 0, .aload_n 0, 1, 0, 0, []), (167, 0, .aload_n 1, 1, 0, 0, []), (168, 0, .iload 6, 2, 0, 0, []), (170, 0, .invokevirtual 637, 3, 80, 0, [4052]), (173, 0, .aload_n 1, 1, 0, 0, []), (174, 0, .lload_n 3, 1, 0, 0, []), (175, 0, .ldc2_w 436, 3, 16, 0, [3198]), (178, 0, .ladd, 1, 0, 0, []), (179, 0, .bipush 8, 2, 0, 0, []), (181, 0, .invokevirtual 404, 3, 11, 7, [3126]), (184, 0, .ladd, 1, 0, 0, []), (185, 6, .lstore 11, 2, 0, 0, []), (187, 0, .iload 5, 2, 0, 0, []), (189, 0, .iconst 2, 1, 0, 0, []), (190, 0, .if_icmp .eq 19, 3, 0, 0, []), (193, 0, .iload 5, 2, 0, 0, []), (195, 0, .iconst 4, 1, 0, 0, []), (196, 0, .if_icmp .eq 13, 3, 0, 0, []), (199, 0, .iload 10, 2, 0, 0, []), (201, 0, .ifCond .ne 8, 3, 0, 0, []), (204, 0, .iload 9, 2, 0, 0, []), (206, 0, .ifCond .eq 10, 3, 0, 0, []), (209, 7, .lload 11, 2, 0, 0, []), (211, 0, .lload 7, 2, 0, 0, []), (213, 0, .lsub, 1, 0, 0, []), (214, 0, .lstore 11, 2, 0, 0, []), (216, 8, .iload 5, 2, 0, 0, []), (218, 0, .bipush 18, 2, 0, 0, []), (220, 0, .if_icmp .eq 10, 3, 0, 0, []), (223, 0, .iload 5, 2, 0, 0, []), (225, 0, .bipush 23, 2, 0, 0, []), (227, 0, .if_icmp .ne 12, 3, 0, 0, []), (230, 9, .lload 11, 2, 0, 0, []), (232, 0, .aload_n 0, 1, 0, 0, []), (233, 0, .getfield 527, 3, 0, 47, [1, 0, 2020]), (236, 0, .lsub, 1, 0, 0, []), (237, 0, .lstore 11, 2, 0, 0, []), (239, 10, .iload 9, 2, 0, 0, []), (241, 0, .ifCond .eq 34, 3, 0, 0, []), (244, 0, .aload_n 1, 1, 0, 0, []), (245, 0, .iload_n 2, 1, 0, 0, []), (246, 0, .lload_n 3, 1, 0, 0, []), (247, 0, .lconst 1, 1, 0, 0, []), (248, 0, .invokestatic 445, 3, 59, 0, [3207]), (251, 0, .bipush 37, 2, 0, 0, []), (253, 0, .if_icmp .ne 22, 3, 0, 0, []), (256, 0, .aload_n 1, 1, 0, 0, []), (257, 0, .iload_n 2, 1, 0, 0, []), (258, 0, .lload_n 3, 1, 0, 0, []), (259, 0, .ldc2_w 440, 3, 2, 0, [3200]), (262, 0, .invokestatic 445, 3, 59, 0, [3207]), (265, 0, .sipush 255, 3, 0, 0, []), (268, 0, .if_icmp .ne 7, 3, 0, 0, []), (271, 0, .iconst 1, 1, 0, 0, []), (272, 0, .goto 4, 3, 0, 0, []), (275, 11, .iconst 0, 1, 0, 0, []), (276, 12, .istore 13, 2, 0, 0, []), (278, 0, .iload 13, 2, 0, 0, []), (280, 0, .ifCond .eq 9, 3, 0, 0, []), (283, 0, .lload 11, 2, 0, 0, []), (285, 0, .lconst 1, 1, 0, 0, []), (286, 0, .ladd, 1, 0, 0, []), (287, 0, .lstore 11, 2, 0, 0, []), (289, 13, .iload 5, 2, 0, 0, []), (291, 0, .bipush 10, 2, 0, 0, []), (293, 0, .if_icmp .ne 16, 3, 0, 0, []), (296, 0, .lload 11, 2, 0, 0, []), (298, 0, .bipush 32, 2, 0, 0, []), (300, 0, .lushr, 1, 0, 0, []), (301, 0, .lconst 0, 1, 0, 0, []), (302, 0, .lcmp, 1, 0, 0, []), (303, 0, .ifCond .eq 33, 3, 0, 0, []), (306, 0, .goto 22, 3, 0, 0, []), (309, 0, .iload 5, 2, 0, 0, []), (311, 0, .invokestatic 643, 3, 82, 0, [4067]), (314, 0, .iconst 4, 1, 0, 0, []), (315, 0, .if_icmp .ne 21, 3, 0, 0, []), (318, 0, .lload 11, 2, 0, 0, []), (320, 0, .lload 11, 2, 0, 0, []), (322, 0, .l2i, 1, 0, 0, []), (323, 0, .i2l, 1, 0, 0, []), (324, 0, .lcmp, 1, 0, 0, []), (325, 0, .ifCond .eq 11, 3, 0, 0, []), (328, 14, .aload_n 0, 1, 0, 0, []), (329, 0, .lload 7, 2, 0, 0, []), (331, 0, .putfield 646, 3, 0, 25, [1, 0, 1238]), (334, 0, .iconst 0, 1, 0, 0, []), (335, 0, .ireturn, 1, 1, 0, []), (336, 15, .aload_n 0, 1, 0, 0, []), (337, 0, .getfield 80, 3, 0, 17, [2, 0, 1230]), (340, 0, .aload_n 1, 1, 0, 0, []), (341, 0, .iload_n 2, 1, 0, 0, []), (342, 0, .invokevirtual 464, 3, 44, 7, [3137]), (345, 0, .iconst 2, 1, 0, 0, []), (346, 0, .invokestatic 649, 3, 9991, 0, [4071]), (349, 0, .aaload, 1, 8, 0, []), (350, 0, .astore 14, 2, 0, 0, []), (352, 0, .aload 14, 2, 0, 0, []), (354, 0, .getfield 575, 3, 4, 4, [1, 0, 228]), (357, 0, .lload 7, 2, 0, 0, []), (359, 0, .ladd, 1, 0, 0, []), (360, 0, .aload 14, 2, 0, 0, []), (362, 0, .getfield 487, 3, 4, 5, [1, 0, 229]), (365, 0, .lsub, 1, 0, 0, []), (366, 0, .lstore 15, 2, 0, 0, []), (368, 0, .iload 9, 2, 0, 0, []), (370, 0, .ifCond .eq 12, 3, 0, 0, []), (373, 0, .aload_n 0, 1, 0, 0, []), (374, 0, .lload 15, 2, 0, 0, []), (376, 0, .aload_n 1, 1, 0, 0, []), (377, 0, .iload_n 2, 1, 0, 0, []), (378, 0, .lload_n 3, 1, 0, 0, []), (379, 0, .invokevirtual 653, 3, 84, 0, [4074]), (382, 16, .aload_n 0, 1, 0, 0, []), (383, 0, .iload 13, 2, 0, 0, []), (385, 0, .ifCond .eq 10, 3, 0, 0, []), (388, 0, .lload 15, 2, 0, 0, []), (390, 0, .lconst 1, 1, 0, 0, []), (391, 0, .lsub, 1, 0, 0, []), (392, 0, .goto 5, 3, 0, 0, []), (395, 0, .lload 15, 2, 0, 0, []), (397, 17, .iload 5, 2, 0, 0, []), (399, 0, .invokestatic 643, 3, 82, 0, [4067]), (402, 0, .lload 11, 2, 0, 0, []), (404, 0, .invokevirtual 607, 3, 83, 0, [4079]), (407, 0, .iconst 1, 1, 0, 0, []), (408, 0, .ireturn, 1, 1, 0, [])]
def m_LinkHouse_fillSite : List aT := [(0, [(0, 2), (1, 2), (2, 0), (3, 1)], []), (74, [(0, 2), (1, 2), (2, 0), (3, 1), (5, 0), (6, 0), (7, 1), (9, 0)], []), (75, [(0, 2), (1, 2), (2, 0), (3, 1), (5, 0), (6, 0), (7, 1), (9, 0)], [0]), (104, [(0, 2), (1, 2), (2, 0), (3, 1), (5, 0), (7, 1), (9, 0), (10, 0)], [0, 0, 2, 1, 1]), (145, [(0, 2), (1, 2), (2, 0), (3, 1), (5, 0), (6, 0), (7, 1), (9, 0), (10, 0)], []), (185, [(0, 2), (1, 2), (2, 0), (3, 1), (5, 0), (7, 1), (9, 0), (10, 0)], [1]), (209, [(0, 2), (1, 2), (2, 0), (3, 1), (5, 0), (7, 1), (9, 0), (11, 1)], []), (216, [(0, 2), (1, 2), (2, 0), (3, 1), (5, 0), (7, 1), (9, 0), (11, 1)], []), (230, [(0, 2), (1, 2), (2, 0), (3, 1), (5, 0), (7, 1), (9, 0), (11, 1)], []), (239, [(0, 2), (1, 2), (2, 0), (3, 1), (5, 0), (7, 1), (9, 0), (11, 1)], []), (275, [(0, 2), (1, 2), (2, 0), (3, 1), (5, 0), (7, 1), (9, 0), (11, 1)], []), (276, [(0, 2), (1, 2), (2, 0), (3, 1), (5, 0), (7, 1), (9, 0), (11, 1)], [0]), (289, [(0, 2), (1, 2), (2, 0), (3, 1), (5, 0), (7, 1), (9, 0), (11, 1), (13, 0)], []), (328, [(0, 2), (7, 1)], []), (336, [(0, 2), (1, 2), (2, 0), (3, 1), (5, 0), (7, 1), (9, 0), (11, 1), (13, 0)], []), (382, [(0, 2), (5, 0), (11, 1), (13, 0), (15, 1)], []), (397, [(5, 0), (11, 1)], [1, 2])]
def B_LinkHouse_fillSite_0 (X : Nat → List Int → AMem → Prop) (Q : Int → AMem → Prop) (x1 x2 x3 : Int) (σ : AMem) : Prop :=
  (if ly_k x1 = 27 then T_Part_number [x1, (w64 (x3 + 8)), 4] σ (fun r1 σ2 => (if ly_k x1 = 27 then T_Part_number [x1, (w64 (x3 + 12)), 4] σ2 (fun r3 σ4 => (if (w32 r1) = 0 then
  Q 1 σ4
  else
  (if ly_k x1 = 27 then (if ly_k (am_rd GR σ4 x1 15) = 4 then 0 ≤ x2 ∧ x2 < ly_l (am_rd GR σ4 x1 15) ∧ (if ly_k x1 = 27 then T_Part_number [x1, x3, 8] σ4 (fun r5 σ6 => am_let (w64 ((σ4 (am_rd GR σ4 x1 15) x2) + r5)) (fun y7 => T_LinkHouse_isShort [x1, x2, x3] σ6 (fun r8 σ9 => T_Part_bySlot [(w32 r1)] σ9 (fun r10 σ11 => (if r10 = 0 then
    X 1 [1, x1, x2, x3, (w32 r1), (w32 r3), y7, r8] σ11
    else
    (if r8 = 0 then
      X 2 [1, x1, x2, x3, (w32 r1), (w32 r3), y7, r8, 1] σ11
      else
      X 1 [1, x1, x2, x3, (w32 r1), (w32 r3), y7, r8] σ11)))))) else False) else False) else False))) else False)) else False)
def B_LinkHouse_fillSite_1 (X : Nat → List Int → AMem → Prop) (Q : Int → AMem → Prop) (x1 x2 x3 x5 x6 x7 x9 : Int) (σ : AMem) : Prop :=
  X 2 [1, x1, x2, x3, x5, x6, x7, x9, 0] σ
def B_LinkHouse_fillSite_2 (X : Nat → List Int → AMem → Prop) (Q : Int → AMem → Prop) (x1 x2 x3 x5 x6 x7 x9 s0 : Int) (σ : AMem) : Prop :=
  (if s0 = 0 then
  (if x5 = 1 then
    X 4 [1, x1, x2, x3, x5, x6, x7, x9, s0] σ
    else
    (if x5 = 10 then
      X 4 [1, x1, x2, x3, x5, x6, x7, x9, s0] σ
      else
      (if x5 = 11 then
        X 4 [1, x1, x2, x3, x5, x6, x7, x9, s0] σ
        else
        T_LinkHouse_addressOf [1, x1, x6] σ (fun r1 σ2 => (if ly_k x1 = 27 then T_Part_number [x1, (w64 (x3 + 16)), 8] σ2 (fun r3 σ4 => X 5 [1, x1, x2, x3, x5, x7, x9, s0, (w64 (r1 + r3))] σ4) else False)))))
  else
  (if x5 = 22 then
    X 3 [1, x1, x2, x3, x5, x7, x9, s0, 1, x6, x1, 8, (σ 1 42)] σ
    else
    X 3 [1, x1, x2, x3, x5, x7, x9, s0, 0, x6, x1, 8, (σ 1 42)] σ))
def B_LinkHouse_fillSite_3 (X : Nat → List Int → AMem → Prop) (Q : Int → AMem → Prop) (x1 x2 x3 x5 x7 x9 x10 s0 s1 s2 s3 s4 : Int) (σ : AMem) : Prop :=
  T_LinkHouse_slotOf [s2, s1, s0] σ (fun r1 σ2 => (if ly_k x1 = 27 then T_Part_number [x1, (w64 (x3 + 16)), 8] σ2 (fun r3 σ4 => X 5 [1, x1, x2, x3, x5, x7, x9, x10, (w64 ((w64 (s4 + (w64 (s3 * r1)))) + r3))] σ4) else False))
def B_LinkHouse_fillSite_4 (X : Nat → List Int → AMem → Prop) (Q : Int → AMem → Prop) (x1 x2 x3 x5 x6 x7 x9 x10 : Int) (σ : AMem) : Prop :=
  (if ly_k x1 = 27 then T_Part_number [x1, (w64 (x3 + 16)), 8] σ (fun r1 σ2 => T_LinkHouse_plain [1, x1, x6, r1] σ2 (fun r3 σ4 => X 5 [1, x1, x2, x3, x5, x7, x9, x10, r3] σ4)) else False)
def B_LinkHouse_fillSite_5 (X : Nat → List Int → AMem → Prop) (Q : Int → AMem → Prop) (x1 x2 x3 x5 x7 x9 x10 s0 : Int) (σ : AMem) : Prop :=
  (if x5 = 2 then
  X 6 [1, x1, x2, x3, x5, x7, x9, s0] σ
  else
  (if x5 = 4 then
    X 6 [1, x1, x2, x3, x5, x7, x9, s0] σ
    else
    (if x10 = 0 then
      (if x9 = 0 then
        X 7 [1, x1, x2, x3, x5, x7, x9, s0] σ
        else
        X 6 [1, x1, x2, x3, x5, x7, x9, s0] σ)
      else
      X 6 [1, x1, x2, x3, x5, x7, x9, s0] σ)))
def B_LinkHouse_fillSite_6 (X : Nat → List Int → AMem → Prop) (Q : Int → AMem → Prop) (x1 x2 x3 x5 x7 x9 x11 : Int) (σ : AMem) : Prop :=
  X 7 [1, x1, x2, x3, x5, x7, x9, (w64 (x11 - x7))] σ
def B_LinkHouse_fillSite_7 (X : Nat → List Int → AMem → Prop) (Q : Int → AMem → Prop) (x1 x2 x3 x5 x7 x9 x11 : Int) (σ : AMem) : Prop :=
  (if x5 = 18 then
  X 8 [1, x1, x2, x3, x5, x7, x9, x11] σ
  else
  (if x5 = 23 then
    X 8 [1, x1, x2, x3, x5, x7, x9, x11] σ
    else
    X 9 [1, x1, x2, x3, x5, x7, x9, x11] σ))
def B_LinkHouse_fillSite_8 (X : Nat → List Int → AMem → Prop) (Q : Int → AMem → Prop) (x1 x2 x3 x5 x7 x9 x11 : Int) (σ : AMem) : Prop :=
  X 9 [1, x1, x2, x3, x5, x7, x9, (w64 (x11 - (σ 1 47)))] σ
def B_LinkHouse_fillSite_9 (X : Nat → List Int → AMem → Prop) (Q : Int → AMem → Prop) (x1 x2 x3 x5 x7 x9 x11 : Int) (σ : AMem) : Prop :=
  (if x9 = 0 then
  X 10 [1, x1, x2, x3, x5, x7, x9, x11] σ
  else
  T_LinkHouse_ahead [x1, x2, x3, 1] σ (fun r1 σ2 => (if r1 = 37 then
    T_LinkHouse_ahead [x1, x2, x3, 2] σ2 (fun r3 σ4 => (if r3 = 255 then
      X 11 [1, x1, x2, x3, x5, x7, x9, x11, 1] σ4
      else
      X 10 [1, x1, x2, x3, x5, x7, x9, x11] σ4))
    else
    X 10 [1, x1, x2, x3, x5, x7, x9, x11] σ2)))
def B_LinkHouse_fillSite_10 (X : Nat → List Int → AMem → Prop) (Q : Int → AMem → Prop) (x1 x2 x3 x5 x7 x9 x11 : Int) (σ : AMem) : Prop :=
  X 11 [1, x1, x2, x3, x5, x7, x9, x11, 0] σ
def B_LinkHouse_fillSite_11 (X : Nat → List Int → AMem → Prop) (Q : Int → AMem → Prop) (x1 x2 x3 x5 x7 x9 x11 s0 : Int) (σ : AMem) : Prop :=
  (if s0 = 0 then
  X 12 [1, x1, x2, x3, x5, x7, x9, x11, s0] σ
  else
  X 12 [1, x1, x2, x3, x5, x7, x9, (w64 (x11 + 1)), s0] σ)
def B_LinkHouse_fillSite_12 (X : Nat → List Int → AMem → Prop) (Q : Int → AMem → Prop) (x1 x2 x3 x5 x7 x9 x11 x13 : Int) (σ : AMem) : Prop :=
  (if x5 = 10 then
  (if (l_ushr x11 32) = 0 then
    X 14 [1, x1, x2, x3, x5, x7, x9, x11, x13] σ
    else
    X 13 [1, x7] σ)
  else
  T_Part_width [x5] σ (fun r1 σ2 => (if r1 = 4 then
    (if x11 = (w32 x11) then
      X 14 [1, x1, x2, x3, x5, x7, x9, x11, x13] σ2
      else
      X 13 [1, x7] σ2)
    else
    X 14 [1, x1, x2, x3, x5, x7, x9, x11, x13] σ2)))
def B_LinkHouse_fillSite_13 (X : Nat → List Int → AMem → Prop) (Q : Int → AMem → Prop) (x7 : Int) (σ : AMem) : Prop :=
  am_let (am_upd σ 1 25 x7) (fun σ1 => Q 0 σ1)
def B_LinkHouse_fillSite_14 (X : Nat → List Int → AMem → Prop) (Q : Int → AMem → Prop) (x1 x2 x3 x5 x7 x9 x11 x13 : Int) (σ : AMem) : Prop :=
  (if ly_k x1 = 27 then T_Part_group [x1, x2] σ (fun r1 σ2 => 0 ≤ (am_min r1 2) ∧ (am_min r1 2) < 3 ∧ (if ly_k (σ2 8289 (am_min r1 2)) = 24 then (if ly_k (σ2 8289 (am_min r1 2)) = 24 then am_let (w64 ((w64 ((am_rd GR σ2 (σ2 8289 (am_min r1 2)) 4) + x7)) - (am_rd GR σ2 (σ2 8289 (am_min r1 2)) 5))) (fun y3 => (if x9 = 0 then
  X 15 [1, x5, x11, x13, y3] σ2
  else
  T_LinkHouse_shorten [1, y3, x1, x2, x3] σ2 (fun r4 σ5 => X 15 [1, x5, x11, x13, y3] σ5))) else False) else False)) else False)
def B_LinkHouse_fillSite_15 (X : Nat → List Int → AMem → Prop) (Q : Int → AMem → Prop) (x5 x11 x13 x15 : Int) (σ : AMem) : Prop :=
  (if x13 = 0 then
  X 16 [x5, x11, x15, 1] σ
  else
  X 16 [x5, x11, (w64 (x15 - 1)), 1] σ)
def B_LinkHouse_fillSite_16 (X : Nat → List Int → AMem → Prop) (Q : Int → AMem → Prop) (x5 x11 s0 s1 : Int) (σ : AMem) : Prop :=
  T_Part_width [x5] σ (fun r1 σ2 => (if ly_k s1 = 20 then T_LinkHouse_put [s1, s0, r1, x11] σ2 (fun r3 σ4 => Q 1 σ4) else False))
def B_LinkHouse_fillSite : (Nat → List Int → AMem → Prop) → (Int → AMem → Prop) → Nat → List Int → AMem → Prop := fun X Q j v σ => am_sel [(am_v4 (fun t x1 x2 x3 σ => if t = 1 then B_LinkHouse_fillSite_0 X Q x1 x2 x3 σ else False)), (am_v8 (fun t x1 x2 x3 x5 x6 x7 x9 σ => if t = 1 then B_LinkHouse_fillSite_1 X Q x1 x2 x3 x5 x6 x7 x9 σ else False)), (am_v9 (fun t x1 x2 x3 x5 x6 x7 x9 s0 σ => if t = 1 then B_LinkHouse_fillSite_2 X Q x1 x2 x3 x5 x6 x7 x9 s0 σ else False)), (am_v13 (fun t x1 x2 x3 x5 x7 x9 x10 s0 s1 s2 s3 s4 σ => if t = 1 then B_LinkHouse_fillSite_3 X Q x1 x2 x3 x5 x7 x9 x10 s0 s1 s2 s3 s4 σ else False)), (am_v9 (fun t x1 x2 x3 x5 x6 x7 x9 x10 σ => if t = 1 then B_LinkHouse_fillSite_4 X Q x1 x2 x3 x5 x6 x7 x9 x10 σ else False)), (am_v9 (fun t x1 x2 x3 x5 x7 x9 x10 s0 σ => if t = 1 then B_LinkHouse_fillSite_5 X Q x1 x2 x3 x5 x7 x9 x10 s0 σ else False)), (am_v8 (fun t x1 x2 x3 x5 x7 x9 x11 σ => if t = 1 then B_LinkHouse_fillSite_6 X Q x1 x2 x3 x5 x7 x9 x11 σ else False)), (am_v8 (fun t x1 x2 x3 x5 x7 x9 x11 σ => if t = 1 then B_LinkHouse_fillSite_7 X Q x1 x2 x3 x5 x7 x9 x11 σ else False)), (am_v8 (fun t x1 x2 x3 x5 x7 x9 x11 σ => if t = 1 then B_LinkHouse_fillSite_8 X Q x1 x2 x3 x5 x7 x9 x11 σ else False)), (am_v8 (fun t x1 x2 x3 x5 x7 x9 x11 σ => if t = 1 then B_LinkHouse_fillSite_9 X Q x1 x2 x3 x5 x7 x9 x11 σ else False)), (am_v8 (fun t x1 x2 x3 x5 x7 x9 x11 σ => if t = 1 then B_LinkHouse_fillSite_10 X Q x1 x2 x3 x5 x7 x9 x11 σ else False)), (am_v9 (fun t x1 x2 x3 x5 x7 x9 x11 s0 σ => if t = 1 then B_LinkHouse_fillSite_11 X Q x1 x2 x3 x5 x7 x9 x11 s0 σ else False)), (am_v9 (fun t x1 x2 x3 x5 x7 x9 x11 x13 σ => if t = 1 then B_LinkHouse_fillSite_12 X Q x1 x2 x3 x5 x7 x9 x11 x13 σ else False)), (am_v2 (fun t x7 σ => if t = 1 then B_LinkHouse_fillSite_13 X Q x7 σ else False)), (am_v9 (fun t x1 x2 x3 x5 x7 x9 x11 x13 σ => if t = 1 then B_LinkHouse_fillSite_14 X Q x1 x2 x3 x5 x7 x9 x11 x13 σ else False)), (am_v5 (fun t x5 x11 x13 x15 σ => if t = 1 then B_LinkHouse_fillSite_15 X Q x5 x11 x13 x15 σ else False)), (am_v4 (fun x5 x11 s0 s1 σ => B_LinkHouse_fillSite_16 X Q x5 x11 s0 s1 σ))] j v σ
def T_LinkHouse_fillSite : List Int → AMem → (Int → AMem → Prop) → Prop := am_T B_LinkHouse_fillSite
abbrev y_LinkHouse_fillSite : MethodName := ⟨"LinkHouse", "fillSite", "(LLinkHouse$Part;IJ)Z"⟩
def a_LinkHouse_fillSite : AC := (85, (y_LinkHouse_fillSite, prog_1_method_45_code, 17, (Option.some Jvm.ClassFile.FieldType.boolean)), [2, 2, 0, 1], 0, false, { frames := 8, cells := 0, slots := 0, locals := 259 }, T_LinkHouse_fillSite)
set_option maxRecDepth 100000 in
theorem ms_LinkHouse_fillSite : am_MSp a_LinkHouse_fillSite := am_ms_v 4041 1 4040 102002 0 rfl (by decide +kernel)
abbrev k_LinkHouse_fillSite : List AC := [a_Part_number, a_LinkHouse_isShort, a_Part_bySlot, a_LinkHouse_slotOf, a_LinkHouse_plain, a_LinkHouse_addressOf, a_LinkHouse_ahead, a_Part_width, a_Part_group, a_LinkHouse_shorten, a_LinkHouse_put]
set_option maxRecDepth 100000 in
theorem s_LinkHouse_fillSite : (am_chkR { frames := 8, cells := 0, slots := 0, locals := 259 } k_LinkHouse_fillSite && am_chkN c_LinkHouse_fillSite { frames := 8, cells := 0, slots := 0, locals := 259 } && c_LinkHouse_fillSite.all (am_chk "LinkHouse" prog_1_method_45_code 17 (Option.some Jvm.ClassFile.FieldType.boolean) k_LinkHouse_fillSite) && c_LinkHouse_fillSite.all (am_chkL m_LinkHouse_fillSite) && decide (m_LinkHouse_fillSite[0]? = some (0, am_argp 0 [2, 2, 0, 1], [])) && decide (am_argn [2, 2, 0, 1] ≤ 17)) = true := by decide +kernel
set_option maxHeartbeats 150000 in
set_option maxRecDepth 100000 in
theorem h_LinkHouse_fillSite : ∀ X Q j v σ, B_LinkHouse_fillSite X Q j v σ → am_at GR k_LinkHouse_fillSite c_LinkHouse_fillSite m_LinkHouse_fillSite X Q 221 j v σ := fun X Q => am_sel_all (P := fun j v σ => am_at GR k_LinkHouse_fillSite c_LinkHouse_fillSite m_LinkHouse_fillSite X Q 221 j v σ) (⟨(am_v4_of (fun t x1 x2 x3 σ h => am_tk (fun e => by subst e; exact fun h => h) h)), ⟨(am_v8_of (fun t x1 x2 x3 x5 x6 x7 x9 σ h => am_tk (fun e => by subst e; exact fun h => h) h)), ⟨(am_v9_of (fun t x1 x2 x3 x5 x6 x7 x9 s0 σ h => am_tk (fun e => by subst e; exact fun h => h) h)), ⟨(am_v13_of (fun t x1 x2 x3 x5 x7 x9 x10 s0 s1 s2 s3 s4 σ h => am_tk (fun e => by subst e; exact fun h => h) h)), ⟨(am_v9_of (fun t x1 x2 x3 x5 x6 x7 x9 x10 σ h => am_tk (fun e => by subst e; exact fun h => h) h)), ⟨(am_v9_of (fun t x1 x2 x3 x5 x7 x9 x10 s0 σ h => am_tk (fun e => by subst e; exact fun h => h) h)), ⟨(am_v8_of (fun t x1 x2 x3 x5 x7 x9 x11 σ h => am_tk (fun e => by subst e; exact fun h => h) h)), ⟨(am_v8_of (fun t x1 x2 x3 x5 x7 x9 x11 σ h => am_tk (fun e => by subst e; exact fun h => h) h)), ⟨(am_v8_of (fun t x1 x2 x3 x5 x7 x9 x11 σ h => am_tk (fun e => by subst e; exact fun h => h) h)), ⟨(am_v8_of (fun t x1 x2 x3 x5 x7 x9 x11 σ h => am_tk (fun e => by subst e; exact fun h => h) h)), ⟨(am_v8_of (fun t x1 x2 x3 x5 x7 x9 x11 σ h => am_tk (fun e => by subst e; exact fun h => h) h)), ⟨(am_v9_of (fun t x1 x2 x3 x5 x7 x9 x11 s0 σ h => am_tk (fun e => by subst e; exact fun h => h) h)), ⟨(am_v9_of (fun t x1 x2 x3 x5 x7 x9 x11 x13 σ h => am_tk (fun e => by subst e; exact fun h => h) h)), ⟨(am_v2_of (fun t x7 σ h => am_tk (fun e => by subst e; exact fun h => h) h)), ⟨(am_v9_of (fun t x1 x2 x3 x5 x7 x9 x11 x13 σ h => am_tk (fun e => by subst e; exact fun h => h) h)), ⟨(am_v5_of (fun t x5 x11 x13 x15 σ h => am_tk (fun e => by subst e; exact fun h => h) h)), ⟨(am_v4_of (fun x5 x11 s0 s1 σ h => h)), trivial⟩⟩⟩⟩⟩⟩⟩⟩⟩⟩⟩⟩⟩⟩⟩⟩⟩)
set_option maxRecDepth 100000 in
theorem S_LinkHouse_fillSite (l : Launch) (w : AW) : am_S l w GR a_LinkHouse_fillSite := am_sound (rt := 0) (cal := k_LinkHouse_fillSite) 85 y_LinkHouse_fillSite prog_1_method_45_code 17 (Option.some Jvm.ClassFile.FieldType.boolean) [2, 2, 0, 1] false { frames := 8, cells := 0, slots := 0, locals := 259 } B_LinkHouse_fillSite "LinkHouse" c_LinkHouse_fillSite m_LinkHouse_fillSite 221 ms_LinkHouse_fillSite (by decide +kernel) rfl rfl (am_cal (S_Part_number l w) (am_cal (S_LinkHouse_isShort l w) (am_cal (S_Part_bySlot l w) (am_cal (S_LinkHouse_slotOf l w) (am_cal (S_LinkHouse_plain l w) (am_cal (S_LinkHouse_addressOf l w) (am_cal (S_LinkHouse_ahead l w) (am_cal (S_Part_width l w) (am_cal (S_Part_group l w) (am_cal (S_LinkHouse_shorten l w) (am_cal (S_LinkHouse_put l w) (fun _ h => absurd h List.not_mem_nil)))))))))))) s_LinkHouse_fillSite h_LinkHouse_fillSite
set_option maxRecDepth 100000 in
theorem of_LinkHouse_fillSite {Q : Int → AMem → Prop} {x1 x2 x3 : Int} {σ : AMem} (h : ∀ X : Nat → List Int → AMem → Prop, (∀ (x1 x2 x3 : Int) (σ : AMem), B_LinkHouse_fillSite_0 X Q x1 x2 x3 σ → X 0 [1, x1, x2, x3] σ) → (∀ (x1 x2 x3 x5 x6 x7 x9 : Int) (σ : AMem), B_LinkHouse_fillSite_1 X Q x1 x2 x3 x5 x6 x7 x9 σ → X 1 [1, x1, x2, x3, x5, x6, x7, x9] σ) → (∀ (x1 x2 x3 x5 x6 x7 x9 s0 : Int) (σ : AMem), B_LinkHouse_fillSite_2 X Q x1 x2 x3 x5 x6 x7 x9 s0 σ → X 2 [1, x1, x2, x3, x5, x6, x7, x9, s0] σ) → (∀ (x1 x2 x3 x5 x7 x9 x10 s0 s1 s2 s3 s4 : Int) (σ : AMem), B_LinkHouse_fillSite_3 X Q x1 x2 x3 x5 x7 x9 x10 s0 s1 s2 s3 s4 σ → X 3 [1, x1, x2, x3, x5, x7, x9, x10, s0, s1, s2, s3, s4] σ) → (∀ (x1 x2 x3 x5 x6 x7 x9 x10 : Int) (σ : AMem), B_LinkHouse_fillSite_4 X Q x1 x2 x3 x5 x6 x7 x9 x10 σ → X 4 [1, x1, x2, x3, x5, x6, x7, x9, x10] σ) → (∀ (x1 x2 x3 x5 x7 x9 x10 s0 : Int) (σ : AMem), B_LinkHouse_fillSite_5 X Q x1 x2 x3 x5 x7 x9 x10 s0 σ → X 5 [1, x1, x2, x3, x5, x7, x9, x10, s0] σ) → (∀ (x1 x2 x3 x5 x7 x9 x11 : Int) (σ : AMem), B_LinkHouse_fillSite_6 X Q x1 x2 x3 x5 x7 x9 x11 σ → X 6 [1, x1, x2, x3, x5, x7, x9, x11] σ) → (∀ (x1 x2 x3 x5 x7 x9 x11 : Int) (σ : AMem), B_LinkHouse_fillSite_7 X Q x1 x2 x3 x5 x7 x9 x11 σ → X 7 [1, x1, x2, x3, x5, x7, x9, x11] σ) → (∀ (x1 x2 x3 x5 x7 x9 x11 : Int) (σ : AMem), B_LinkHouse_fillSite_8 X Q x1 x2 x3 x5 x7 x9 x11 σ → X 8 [1, x1, x2, x3, x5, x7, x9, x11] σ) → (∀ (x1 x2 x3 x5 x7 x9 x11 : Int) (σ : AMem), B_LinkHouse_fillSite_9 X Q x1 x2 x3 x5 x7 x9 x11 σ → X 9 [1, x1, x2, x3, x5, x7, x9, x11] σ) → (∀ (x1 x2 x3 x5 x7 x9 x11 : Int) (σ : AMem), B_LinkHouse_fillSite_10 X Q x1 x2 x3 x5 x7 x9 x11 σ → X 10 [1, x1, x2, x3, x5, x7, x9, x11] σ) → (∀ (x1 x2 x3 x5 x7 x9 x11 s0 : Int) (σ : AMem), B_LinkHouse_fillSite_11 X Q x1 x2 x3 x5 x7 x9 x11 s0 σ → X 11 [1, x1, x2, x3, x5, x7, x9, x11, s0] σ) → (∀ (x1 x2 x3 x5 x7 x9 x11 x13 : Int) (σ : AMem), B_LinkHouse_fillSite_12 X Q x1 x2 x3 x5 x7 x9 x11 x13 σ → X 12 [1, x1, x2, x3, x5, x7, x9, x11, x13] σ) → (∀ (x7 : Int) (σ : AMem), B_LinkHouse_fillSite_13 X Q x7 σ → X 13 [1, x7] σ) → (∀ (x1 x2 x3 x5 x7 x9 x11 x13 : Int) (σ : AMem), B_LinkHouse_fillSite_14 X Q x1 x2 x3 x5 x7 x9 x11 x13 σ → X 14 [1, x1, x2, x3, x5, x7, x9, x11, x13] σ) → (∀ (x5 x11 x13 x15 : Int) (σ : AMem), B_LinkHouse_fillSite_15 X Q x5 x11 x13 x15 σ → X 15 [1, x5, x11, x13, x15] σ) → (∀ (x5 x11 s0 s1 : Int) (σ : AMem), B_LinkHouse_fillSite_16 X Q x5 x11 s0 s1 σ → X 16 [x5, x11, s0, s1] σ) → X 0 [1, x1, x2, x3] σ) : T_LinkHouse_fillSite [1, x1, x2, x3] σ Q := fun X hX => h X (fun x1 x2 x3 σ h => hX 0 [1, x1, x2, x3] σ h) (fun x1 x2 x3 x5 x6 x7 x9 σ h => hX 1 [1, x1, x2, x3, x5, x6, x7, x9] σ h) (fun x1 x2 x3 x5 x6 x7 x9 s0 σ h => hX 2 [1, x1, x2, x3, x5, x6, x7, x9, s0] σ h) (fun x1 x2 x3 x5 x7 x9 x10 s0 s1 s2 s3 s4 σ h => hX 3 [1, x1, x2, x3, x5, x7, x9, x10, s0, s1, s2, s3, s4] σ h) (fun x1 x2 x3 x5 x6 x7 x9 x10 σ h => hX 4 [1, x1, x2, x3, x5, x6, x7, x9, x10] σ h) (fun x1 x2 x3 x5 x7 x9 x10 s0 σ h => hX 5 [1, x1, x2, x3, x5, x7, x9, x10, s0] σ h) (fun x1 x2 x3 x5 x7 x9 x11 σ h => hX 6 [1, x1, x2, x3, x5, x7, x9, x11] σ h) (fun x1 x2 x3 x5 x7 x9 x11 σ h => hX 7 [1, x1, x2, x3, x5, x7, x9, x11] σ h) (fun x1 x2 x3 x5 x7 x9 x11 σ h => hX 8 [1, x1, x2, x3, x5, x7, x9, x11] σ h) (fun x1 x2 x3 x5 x7 x9 x11 σ h => hX 9 [1, x1, x2, x3, x5, x7, x9, x11] σ h) (fun x1 x2 x3 x5 x7 x9 x11 σ h => hX 10 [1, x1, x2, x3, x5, x7, x9, x11] σ h) (fun x1 x2 x3 x5 x7 x9 x11 s0 σ h => hX 11 [1, x1, x2, x3, x5, x7, x9, x11, s0] σ h) (fun x1 x2 x3 x5 x7 x9 x11 x13 σ h => hX 12 [1, x1, x2, x3, x5, x7, x9, x11, x13] σ h) (fun x7 σ h => hX 13 [1, x7] σ h) (fun x1 x2 x3 x5 x7 x9 x11 x13 σ h => hX 14 [1, x1, x2, x3, x5, x7, x9, x11, x13] σ h) (fun x5 x11 x13 x15 σ h => hX 15 [1, x5, x11, x13, x15] σ h) (fun x5 x11 s0 s1 σ h => hX 16 [x5, x11, s0, s1] σ h)
def c_LinkHouse_fill : List aE := [(0, 1, .iconst 0, 1, 0, 0, []), (1, 0, .istore_n 1, 1, 0, 0, []), (2, 2, .iload_n 1, 1, 0, 0, []), (3, 0, .aload_n 0, 1, 0, 0, []), (4, 0, .getfield 259, 3, 0, 21, [0, 0, 1234]), (7, 0, .if_icmp .ge 106, 3, 0, 0, []), (10, 0, .aload_n 0, 1, 0, 0, []), (11, 0, .getfield 42, 3, 0, 7, [2, 0, 1220]), (14, 0, .iload_n 1, 1, 0, 0, []), (15, 0, .aaload, 1, 5, 0, []), (16, 0, .astore_n 2, 1, 0, 0, []), (17, 0, .iconst 0, 1, 0, 0, []), (18, 0, .istore_n 3, 1, 0, 0, []), (19, 3, .iload_n 3, 1, 0, 0, []), (20, 0, .aload_n 2, 1, 0, 0, []), (21, 0, .getfield 219, 3, 7, 3, [0, 0, 1073]), (24, 0, .if_icmp .ge 83, 3, 0, 0, []), (27, 0, .lconst 0, 1, 0, 0, []), (28, 0, .lstore 4, 2, 0, 0, []), (30, 4, .aload_n 2, 1, 0, 0, []), (31, 0, .iload_n 3, 1, 0, 0, []), (32, 0, .invokevirtual 387, 3, 39, 7, [3117]), (35, 0, .ifCond .eq 66, 3, 0, 0, []), (38, 0, .aload_n 2, 1, 0, 0, []), (39, 0, .getfield 360, 3, 7, 26, [2, 0, 1120]), (42, 0, .aload_n 2, 1, 0, 0, []), (43, 0, .getfield 226, 3, 7, 10, [2, 0, 1086]), (46, 0, .iload_n 3, 1, 0, 0, []), (47, 0, .iaload, 1, 0, 0, []), (48, 0, .baload, 1, 3, 0, []), (49, 0, .ifCond .eq 52, 3, 0, 0, []), (52, 0, .lload 4, 2, 0, 0, []), (54, 0, .aload_n 2, 1, 0, 0, []), (55, 0, .getfield 390, 3, 7, 13, [2, 0, 1094]), (58, 0, .iload_n 3, 1, 0, 0, []), (59, 0, .laload, 1, 0, 0, []), (60, 0, .lcmp, 1, 0, 0, []), (61, 0, .ifCond .ge 40, 3, 0, 0, []), (64, 0, .aload_n 0, 1, 0, 0, []), (65, 0, .aload_n 2, 1, 0, 0, []), (66, 0, .aload_n 2, 1, 0, 0, []), (67, 0, .getfield 226, 3, 7, 10, [2, 0, 1086]), (70, 0, .iload_n 3, 1, 0, 0, []), (71, 0, .iaload, 1, 0, 0, []), (72, 0, .aload_n 2, 1, 0, 0, []), (73, 0, .getfield 393, 3, 7, 11, [2, 0, 1089]), (76, 0, .iload_n 3, 1, 0, 0, []), (77, 0, .iaload, 1, 0, 0, []), (78, 0, .i2l, 1, 0, 0, []), (79, 0, .lload 4, 2, 0, 0, []), (81, 0, .ladd, 1, 0, 0, []), (82, 0, .invokevirtual 634, 3, 85, 0, [4038]), (85, 0, .ifCond .ne 5, 3, 0, 0, []), (88, 0, .iconst 0, 1, 0, 0, []), (89, 0, .ireturn, 1, 1, 0, []), (90, 0, .lload 4, 2, 0, 0, []), (92, 0, .ldc2_w 400, 3, 24, 0, [3128]), (95, 0, .ladd, 1, 0, 0, []), (96, 0, .lstore 4, 2, 0, 0, []), (98, 0, .goto (-68), 3, 0, 0, []), (101, 5, .iinc 3 1, 3, 0, 0, []), (104, 0, .goto (-85), 3, 0, 0, []), (107, 0, .iinc 1 1, 3, 0, 0, []), (110, 0, .goto (-108), 3, 0, 0, []), (113, 0, .iconst 0, 1, 0, 0, []), (114, 0, .istore_n 1, 1, 0, 0, []), (115, 6, .iload_n 1, 1, 0, 0, []), (116, 0, .aload_n 0, 1, 0, 0, []), (117, 0, .getfield 315, 3, 0, 41, [0, 0, 2014]), (120, 0, .if_icmp .ge 85, 3, 0, 0, []), (123, 0, .aload_n 0, 1, 0, 0, []), (124, 0, .aload_n 0, 1, 0, 0, []), (125, 0, .getfield 80, 3, 0, 17, [2, 0, 1230]), (128, 0, .iconst 2, 1, 0, 0, []), (129, 0, .aaload, 1, 8, 0, []), (130, 0, .getfield 575, 3, 4, 4, [1, 0, 228]), (133, 0, .aload_n 0, 1, 0, 0, []), (134, 0, .getfield 548, 3, 0, 42, [1, 0, 2015]), (137, 0, .ladd, 1, 0, 0, []), (138, 0, .aload_n 0, 1, 0, 0, []), (139, 0, .getfield 80, 3, 0, 17, [2, 0, 1230]), (142, 0, .iconst 2, 1, 0, 0, []), (143, 0, .aaload, 1, 8, 0, []), (144, 0, .getfield 487, 3, 4, 5, [1, 0, 229]), (147, 0, .lsub, 1, 0, 0, []), (148, 0, .ldc2_w 179, 3, 8, 0, [3127]), (151, 0, .iload_n 1, 1, 0, 0, []), (152, 0, .i2l, 1, 0, 0, []), (153, 0, .lmul, 1, 0, 0, []), (154, 0, .ladd, 1, 0, 0, []), (155, 0, .bipush 8, 2, 0, 0, []), (157, 0, .aload_n 0, 1, 0, 0, []), (158, 0, .aload_n 0, 1, 0, 0, []), (159, 0, .getfield 42, 3, 0, 7, [2, 0, 1220]), (162, 0, .aload_n 0, 1, 0, 0, []), (163, 0, .getfield 96, 3, 0, 30, [2, 0, 2003]), (166, 0, .iload_n 1, 1, 0, 0, []), (167, 0, .iaload, 1, 0, 0, []), (168, 0, .aaload, 1, 5, 0, []), (169, 0, .aload_n 0, 1, 0, 0, []), (170, 0, .getfield 99, 3, 0, 31, [2, 0, 2004]), (173, 0, .iload_n 1, 1, 0, 0, []), (174, 0, .iaload, 1, 0, 0, []), (175, 0, .invokevirtual 637, 3, 80, 0, [4052]), (178, 0, .aload_n 0, 1, 0, 0, []), (179, 0, .getfield 102, 3, 0, 32, [2, 0, 2005]), (182, 0, .iload_n 1, 1, 0, 0, []), (183, 0, .baload, 1, 3, 0, []), (184, 0, .ifCond .eq 10, 3, 0, 0, []), (187, 0, .aload_n 0, 1, 0, 0, []), (188, 0, .getfield 527, 3, 0, 47, [1, 0, 2020]), (191, 0, .goto 4, 3, 0, 0, []), (194, 0, .lconst 0, 1, 0, 0, []), (195, 7, .lsub, 1, 0, 0, []), (196, 0, .invokevirtual 607, 3, 83, 0, [4079]), (199, 0, .iinc 1 1, 3, 0, 0, []), (202, 0, .goto (-87), 3, 0, 0, []), (205, 0, .iconst 1, 1, 0, 0, []), (206, 0, .ireturn, 1, 1, 0, [])]
def m_LinkHouse_fill : List aT := [(0, [(0, 2)], []), (2, [(0, 2), (1, 0)], []), (19, [(0, 2), (1, 0), (2, 2), (3, 0)], []), (30, [(0, 2), (1, 0), (2, 2), (3, 0), (4, 1)], []), (101, [(0, 2), (1, 0), (2, 2), (3, 0)], []), (115, [(0, 2), (1, 0)], []), (195, [(0, 2), (1, 0)], [1, 1, 0, 1, 2])]
def B_LinkHouse_fill_0 (X : Nat → List Int → AMem → Prop) (Q : Int → AMem → Prop) (σ : AMem) : Prop :=
  X 1 [1, 0] σ
def B_LinkHouse_fill_1 (X : Nat → List Int → AMem → Prop) (Q : Int → AMem → Prop) (x1 : Int) (σ : AMem) : Prop :=
  (if x1 < (σ 1 21) then
  0 ≤ x1 ∧ x1 < 64 ∧ X 2 [1, x1, (σ 8279 x1), 0] σ
  else
  X 5 [1, 0] σ)
def B_LinkHouse_fill_2 (X : Nat → List Int → AMem → Prop) (Q : Int → AMem → Prop) (x1 x2 x3 : Int) (σ : AMem) : Prop :=
  (if ly_k x2 = 27 then (if x3 < (am_rd GR σ x2 3) then
  X 3 [1, x1, x2, x3, 0] σ
  else
  am_r32 (x1 + 1) ∧ X 1 [1, (x1 + 1)] σ) else False)
def B_LinkHouse_fill_3 (X : Nat → List Int → AMem → Prop) (Q : Int → AMem → Prop) (x1 x2 x3 x4 : Int) (σ : AMem) : Prop :=
  (if ly_k x2 = 27 then T_Part_isSites [x2, x3] σ (fun r1 σ2 => (if r1 = 0 then
  X 4 [1, x1, x2, x3] σ2
  else
  (if ly_k x2 = 27 then (if ly_k x2 = 27 then (if ly_k (am_rd GR σ2 x2 10) = 1 then 0 ≤ x3 ∧ x3 < ly_l (am_rd GR σ2 x2 10) ∧ (if ly_k (am_rd GR σ2 x2 26) = 3 then 0 ≤ (σ2 (am_rd GR σ2 x2 10) x3) ∧ (σ2 (am_rd GR σ2 x2 10) x3) < ly_l (am_rd GR σ2 x2 26) ∧ (if (σ2 (am_rd GR σ2 x2 26) (σ2 (am_rd GR σ2 x2 10) x3)) = 0 then
    X 4 [1, x1, x2, x3] σ2
    else
    (if ly_k x2 = 27 then (if ly_k (am_rd GR σ2 x2 13) = 4 then 0 ≤ x3 ∧ x3 < ly_l (am_rd GR σ2 x2 13) ∧ (if x4 < (σ2 (am_rd GR σ2 x2 13) x3) then
      (if ly_k x2 = 27 then (if ly_k (am_rd GR σ2 x2 10) = 1 then 0 ≤ x3 ∧ x3 < ly_l (am_rd GR σ2 x2 10) ∧ (if ly_k x2 = 27 then (if ly_k (am_rd GR σ2 x2 11) = 1 then 0 ≤ x3 ∧ x3 < ly_l (am_rd GR σ2 x2 11) ∧ T_LinkHouse_fillSite [1, x2, (σ2 (am_rd GR σ2 x2 10) x3), (w64 ((σ2 (am_rd GR σ2 x2 11) x3) + x4))] σ2 (fun r3 σ4 => (if r3 = 0 then
        Q 0 σ4
        else
        X 3 [1, x1, x2, x3, (w64 (x4 + 24))] σ4)) else False) else False) else False) else False)
      else
      X 4 [1, x1, x2, x3] σ2) else False) else False)) else False) else False) else False) else False))) else False)
def B_LinkHouse_fill_4 (X : Nat → List Int → AMem → Prop) (Q : Int → AMem → Prop) (x1 x2 x3 : Int) (σ : AMem) : Prop :=
  am_r32 (x3 + 1) ∧ X 2 [1, x1, x2, (x3 + 1)] σ
def B_LinkHouse_fill_5 (X : Nat → List Int → AMem → Prop) (Q : Int → AMem → Prop) (x1 : Int) (σ : AMem) : Prop :=
  (if x1 < (σ 1 41) then
  (0 : Int) ≤ 2 ∧ (2 : Int) < 3 ∧ (if ly_k (σ 8289 2) = 24 then (0 : Int) ≤ 2 ∧ (2 : Int) < 3 ∧ (if ly_k (σ 8289 2) = 24 then 0 ≤ x1 ∧ x1 < 8192 ∧ 0 ≤ (σ 8300 x1) ∧ (σ 8300 x1) < 64 ∧ 0 ≤ x1 ∧ x1 < 8192 ∧ T_LinkHouse_addressOf [1, (σ 8279 (σ 8300 x1)), (σ 8301 x1)] σ (fun r1 σ2 => 0 ≤ x1 ∧ x1 < 8192 ∧ (if (σ2 8302 x1) = 0 then
    X 6 [1, x1, 0, r1, 8, (w64 ((w64 ((w64 ((am_rd GR σ (σ 8289 2) 4) + (σ 1 42))) - (am_rd GR σ (σ 8289 2) 5))) + (w64 (8 * x1)))), 1] σ2
    else
    X 6 [1, x1, (σ2 1 47), r1, 8, (w64 ((w64 ((w64 ((am_rd GR σ (σ 8289 2) 4) + (σ 1 42))) - (am_rd GR σ (σ 8289 2) 5))) + (w64 (8 * x1)))), 1] σ2)) else False) else False)
  else
  Q 1 σ)
def B_LinkHouse_fill_6 (X : Nat → List Int → AMem → Prop) (Q : Int → AMem → Prop) (x1 s0 s1 s2 s3 s4 : Int) (σ : AMem) : Prop :=
  (if ly_k s4 = 20 then T_LinkHouse_put [s4, s3, s2, (w64 (s1 - s0))] σ (fun r1 σ2 => am_r32 (x1 + 1) ∧ X 5 [1, (x1 + 1)] σ2) else False)
def B_LinkHouse_fill : (Nat → List Int → AMem → Prop) → (Int → AMem → Prop) → Nat → List Int → AMem → Prop := fun X Q j v σ => am_sel [(am_v1 (fun t σ => if t = 1 then B_LinkHouse_fill_0 X Q σ else False)), (am_v2 (fun t x1 σ => if t = 1 then B_LinkHouse_fill_1 X Q x1 σ else False)), (am_v4 (fun t x1 x2 x3 σ => if t = 1 then B_LinkHouse_fill_2 X Q x1 x2 x3 σ else False)), (am_v5 (fun t x1 x2 x3 x4 σ => if t = 1 then B_LinkHouse_fill_3 X Q x1 x2 x3 x4 σ else False)), (am_v4 (fun t x1 x2 x3 σ => if t = 1 then B_LinkHouse_fill_4 X Q x1 x2 x3 σ else False)), (am_v2 (fun t x1 σ => if t = 1 then B_LinkHouse_fill_5 X Q x1 σ else False)), (am_v7 (fun t x1 s0 s1 s2 s3 s4 σ => if t = 1 then B_LinkHouse_fill_6 X Q x1 s0 s1 s2 s3 s4 σ else False))] j v σ
def T_LinkHouse_fill : List Int → AMem → (Int → AMem → Prop) → Prop := am_T B_LinkHouse_fill
abbrev y_LinkHouse_fill : MethodName := ⟨"LinkHouse", "fill", "()Z"⟩
def a_LinkHouse_fill : AC := (86, (y_LinkHouse_fill, prog_1_method_44_code, 6, (Option.some Jvm.ClassFile.FieldType.boolean)), [2], 0, false, { frames := 9, cells := 0, slots := 0, locals := 303 }, T_LinkHouse_fill)
set_option maxRecDepth 100000 in
theorem ms_LinkHouse_fill : am_MSp a_LinkHouse_fill := am_ms_v 4037 1 4036 102001 0 rfl (by decide +kernel)
abbrev k_LinkHouse_fill : List AC := [a_Part_isSites, a_LinkHouse_fillSite, a_LinkHouse_addressOf, a_LinkHouse_put]
set_option maxRecDepth 100000 in
theorem s_LinkHouse_fill : (am_chkR { frames := 9, cells := 0, slots := 0, locals := 303 } k_LinkHouse_fill && am_chkN c_LinkHouse_fill { frames := 9, cells := 0, slots := 0, locals := 303 } && c_LinkHouse_fill.all (am_chk "LinkHouse" prog_1_method_44_code 6 (Option.some Jvm.ClassFile.FieldType.boolean) k_LinkHouse_fill) && c_LinkHouse_fill.all (am_chkL m_LinkHouse_fill) && decide (m_LinkHouse_fill[0]? = some (0, am_argp 0 [2], [])) && decide (am_argn [2] ≤ 6)) = true := by decide +kernel
set_option maxHeartbeats 150000 in
set_option maxRecDepth 100000 in
theorem h_LinkHouse_fill : ∀ X Q j v σ, B_LinkHouse_fill X Q j v σ → am_at GR k_LinkHouse_fill c_LinkHouse_fill m_LinkHouse_fill X Q 124 j v σ := fun X Q => am_sel_all (P := fun j v σ => am_at GR k_LinkHouse_fill c_LinkHouse_fill m_LinkHouse_fill X Q 124 j v σ) (⟨(am_v1_of (fun t σ h => am_tk (fun e => by subst e; exact fun h => h) h)), ⟨(am_v2_of (fun t x1 σ h => am_tk (fun e => by subst e; exact fun h => h) h)), ⟨(am_v4_of (fun t x1 x2 x3 σ h => am_tk (fun e => by subst e; exact fun h => h) h)), ⟨(am_v5_of (fun t x1 x2 x3 x4 σ h => am_tk (fun e => by subst e; exact fun h => h) h)), ⟨(am_v4_of (fun t x1 x2 x3 σ h => am_tk (fun e => by subst e; exact fun h => h) h)), ⟨(am_v2_of (fun t x1 σ h => am_tk (fun e => by subst e; exact fun h => h) h)), ⟨(am_v7_of (fun t x1 s0 s1 s2 s3 s4 σ h => am_tk (fun e => by subst e; exact fun h => h) h)), trivial⟩⟩⟩⟩⟩⟩⟩)
set_option maxRecDepth 100000 in
theorem S_LinkHouse_fill (l : Launch) (w : AW) : am_S l w GR a_LinkHouse_fill := am_sound (rt := 0) (cal := k_LinkHouse_fill) 86 y_LinkHouse_fill prog_1_method_44_code 6 (Option.some Jvm.ClassFile.FieldType.boolean) [2] false { frames := 9, cells := 0, slots := 0, locals := 303 } B_LinkHouse_fill "LinkHouse" c_LinkHouse_fill m_LinkHouse_fill 124 ms_LinkHouse_fill (by decide +kernel) rfl rfl (am_cal (S_Part_isSites l w) (am_cal (S_LinkHouse_fillSite l w) (am_cal (S_LinkHouse_addressOf l w) (am_cal (S_LinkHouse_put l w) (fun _ h => absurd h List.not_mem_nil))))) s_LinkHouse_fill h_LinkHouse_fill
set_option maxRecDepth 100000 in
theorem of_LinkHouse_fill {Q : Int → AMem → Prop} {σ : AMem} (h : ∀ X : Nat → List Int → AMem → Prop, (∀ (σ : AMem), B_LinkHouse_fill_0 X Q σ → X 0 [1] σ) → (∀ (x1 : Int) (σ : AMem), B_LinkHouse_fill_1 X Q x1 σ → X 1 [1, x1] σ) → (∀ (x1 x2 x3 : Int) (σ : AMem), B_LinkHouse_fill_2 X Q x1 x2 x3 σ → X 2 [1, x1, x2, x3] σ) → (∀ (x1 x2 x3 x4 : Int) (σ : AMem), B_LinkHouse_fill_3 X Q x1 x2 x3 x4 σ → X 3 [1, x1, x2, x3, x4] σ) → (∀ (x1 x2 x3 : Int) (σ : AMem), B_LinkHouse_fill_4 X Q x1 x2 x3 σ → X 4 [1, x1, x2, x3] σ) → (∀ (x1 : Int) (σ : AMem), B_LinkHouse_fill_5 X Q x1 σ → X 5 [1, x1] σ) → (∀ (x1 s0 s1 s2 s3 s4 : Int) (σ : AMem), B_LinkHouse_fill_6 X Q x1 s0 s1 s2 s3 s4 σ → X 6 [1, x1, s0, s1, s2, s3, s4] σ) → X 0 [1] σ) : T_LinkHouse_fill [1] σ Q := fun X hX => h X (fun σ h => hX 0 [1] σ h) (fun x1 σ h => hX 1 [1, x1] σ h) (fun x1 x2 x3 σ h => hX 2 [1, x1, x2, x3] σ h) (fun x1 x2 x3 x4 σ h => hX 3 [1, x1, x2, x3, x4] σ h) (fun x1 x2 x3 σ h => hX 4 [1, x1, x2, x3] σ h) (fun x1 σ h => hX 5 [1, x1] σ h) (fun x1 s0 s1 s2 s3 s4 σ h => hX 6 [1, x1, s0, s1, s2, s3, s4] σ h)
