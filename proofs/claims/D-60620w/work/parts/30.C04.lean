/-! methods: printed by gen/all.py -/
def c_LinkHouse_seat : List aE := [(0, 1, .iconst 0, 1, 0, 0, []), (1, 0, .istore_n 1, 1, 0, 0, []), (2, 2, .iload_n 1, 1, 0, 0, []), (3, 0, .aload_n 0, 1, 0, 0, []), (4, 0, .getfield 259, 3, 0, 21, [0, 0, 1234]), (7, 0, .if_icmp .ge 159, 3, 0, 0, []), (10, 0, .aload_n 0, 1, 0, 0, []), (11, 0, .getfield 42, 3, 0, 7, [2, 0, 1220]), (14, 0, .iload_n 1, 1, 0, 0, []), (15, 0, .aaload, 1, 5, 0, []), (16, 0, .astore_n 2, 1, 0, 0, []), (17, 0, .iconst 0, 1, 0, 0, []), (18, 0, .istore_n 3, 1, 0, 0, []), (19, 3, .iload_n 3, 1, 0, 0, []), (20, 0, .aload_n 2, 1, 0, 0, []), (21, 0, .getfield 219, 3, 7, 3, [0, 0, 1073]), (24, 0, .if_icmp .ge 136, 3, 0, 0, []), (27, 0, .lconst 0, 1, 0, 0, []), (28, 0, .lstore 4, 2, 0, 0, []), (30, 4, .aload_n 2, 1, 0, 0, []), (31, 0, .iload_n 3, 1, 0, 0, []), (32, 0, .invokevirtual 387, 3, 39, 7, [3117]), (35, 0, .ifCond .eq 119, 3, 0, 0, []), (38, 0, .aload_n 2, 1, 0, 0, []), (39, 0, .getfield 360, 3, 7, 26, [2, 0, 1120]), (42, 0, .aload_n 2, 1, 0, 0, []), (43, 0, .getfield 226, 3, 7, 10, [2, 0, 1086]), (46, 0, .iload_n 3, 1, 0, 0, []), (47, 0, .iaload, 1, 0, 0, []), (48, 0, .baload, 1, 3, 0, []), (49, 0, .ifCond .eq 105, 3, 0, 0, []), (52, 0, .lload 4, 2, 0, 0, []), (54, 0, .aload_n 2, 1, 0, 0, []), (55, 0, .getfield 390, 3, 7, 13, [2, 0, 1094]), (58, 0, .iload_n 3, 1, 0, 0, []), (59, 0, .laload, 1, 0, 0, []), (60, 0, .lcmp, 1, 0, 0, []), (61, 0, .ifCond .ge 93, 3, 0, 0, []), (64, 0, .aload_n 2, 1, 0, 0, []), (65, 0, .getfield 393, 3, 7, 11, [2, 0, 1089]), (68, 0, .iload_n 3, 1, 0, 0, []), (69, 0, .iaload, 1, 0, 0, []), (70, 0, .i2l, 1, 0, 0, []), (71, 0, .lload 4, 2, 0, 0, []), (73, 0, .ladd, 1, 0, 0, []), (74, 0, .lstore 6, 2, 0, 0, []), (76, 0, .aload_n 2, 1, 0, 0, []), (77, 0, .lload 6, 2, 0, 0, []), (79, 0, .ldc2_w 179, 3, 8, 0, [3127]), (82, 0, .ladd, 1, 0, 0, []), (83, 0, .iconst 4, 1, 0, 0, []), (84, 0, .invokevirtual 404, 3, 11, 7, [3126]), (87, 0, .l2i, 1, 0, 0, []), (88, 0, .istore 8, 2, 0, 0, []), (90, 0, .iload 8, 2, 0, 0, []), (92, 0, .invokestatic 408, 3, 56, 0, [3192]), (95, 0, .ifCond .eq 48, 3, 0, 0, []), (98, 0, .aload_n 2, 1, 0, 0, []), (99, 0, .aload_n 2, 1, 0, 0, []), (100, 0, .getfield 226, 3, 7, 10, [2, 0, 1086]), (103, 0, .iload_n 3, 1, 0, 0, []), (104, 0, .iaload, 1, 0, 0, []), (105, 0, .lload 6, 2, 0, 0, []), (107, 0, .invokestatic 411, 3, 60, 0, [3195]), (110, 0, .ifCond .ne 33, 3, 0, 0, []), (113, 0, .aload_n 0, 1, 0, 0, []), (114, 0, .aload_n 2, 1, 0, 0, []), (115, 0, .iload_n 1, 1, 0, 0, []), (116, 0, .aload_n 2, 1, 0, 0, []), (117, 0, .lload 6, 2, 0, 0, []), (119, 0, .ldc2_w 402, 3, 12, 0, [3125]), (122, 0, .ladd, 1, 0, 0, []), (123, 0, .iconst 4, 1, 0, 0, []), (124, 0, .invokevirtual 404, 3, 11, 7, [3126]), (127, 0, .l2i, 1, 0, 0, []), (128, 0, .iload 8, 2, 0, 0, []), (130, 0, .bipush 22, 2, 0, 0, []), (132, 0, .if_icmp .ne 7, 3, 0, 0, []), (135, 0, .iconst 1, 1, 0, 0, []), (136, 0, .goto 4, 3, 0, 0, []), (139, 0, .iconst 0, 1, 0, 0, []), (140, 5, .invokevirtual 415, 3, 62, 0, [3210]), (143, 6, .lload 4, 2, 0, 0, []), (145, 0, .ldc2_w 400, 3, 24, 0, [3128]), (148, 0, .ladd, 1, 0, 0, []), (149, 0, .lstore 4, 2, 0, 0, []), (151, 0, .goto (-121), 3, 0, 0, []), (154, 7, .iinc 3 1, 3, 0, 0, []), (157, 0, .goto (-138), 3, 0, 0, []), (160, 0, .iinc 1 1, 3, 0, 0, []), (163, 0, .goto (-161), 3, 0, 0, []), (166, 0, .return_, 1, 0, 0, [])]
def m_LinkHouse_seat : List aT := [(0, [(0, 2)], []), (2, [(0, 2), (1, 0)], []), (19, [(0, 2), (1, 0), (2, 2), (3, 0)], []), (30, [(0, 2), (1, 0), (2, 2), (3, 0), (4, 1)], []), (140, [(0, 2), (1, 0), (2, 2), (3, 0), (4, 1)], [0, 0, 0, 2, 2]), (143, [(0, 2), (1, 0), (2, 2), (3, 0), (4, 1)], []), (154, [(0, 2), (1, 0), (2, 2), (3, 0)], [])]
def B_LinkHouse_seat_0 (X : Nat → List Int → AMem → Prop) (Q : Int → AMem → Prop) (σ : AMem) : Prop :=
  X 1 [1, 0] σ
def B_LinkHouse_seat_1 (X : Nat → List Int → AMem → Prop) (Q : Int → AMem → Prop) (x1 : Int) (σ : AMem) : Prop :=
  (if x1 < (σ 1 21) then
  0 ≤ x1 ∧ x1 < 64 ∧ X 2 [1, x1, (σ 8279 x1), 0] σ
  else
  Q 0 σ)
def B_LinkHouse_seat_2 (X : Nat → List Int → AMem → Prop) (Q : Int → AMem → Prop) (x1 x2 x3 : Int) (σ : AMem) : Prop :=
  (if ly_k x2 = 27 then (if x3 < (am_rd GR σ x2 3) then
  X 3 [1, x1, x2, x3, 0] σ
  else
  am_r32 (x1 + 1) ∧ X 1 [1, (x1 + 1)] σ) else False)
def B_LinkHouse_seat_3 (X : Nat → List Int → AMem → Prop) (Q : Int → AMem → Prop) (x1 x2 x3 x4 : Int) (σ : AMem) : Prop :=
  (if ly_k x2 = 27 then T_Part_isSites [x2, x3] σ (fun r1 σ2 => (if r1 = 0 then
  X 6 [1, x1, x2, x3] σ2
  else
  (if ly_k x2 = 27 then (if ly_k x2 = 27 then (if ly_k (am_rd GR σ2 x2 10) = 1 then 0 ≤ x3 ∧ x3 < ly_l (am_rd GR σ2 x2 10) ∧ (if ly_k (am_rd GR σ2 x2 26) = 3 then 0 ≤ (σ2 (am_rd GR σ2 x2 10) x3) ∧ (σ2 (am_rd GR σ2 x2 10) x3) < ly_l (am_rd GR σ2 x2 26) ∧ (if (σ2 (am_rd GR σ2 x2 26) (σ2 (am_rd GR σ2 x2 10) x3)) = 0 then
    X 6 [1, x1, x2, x3] σ2
    else
    (if ly_k x2 = 27 then (if ly_k (am_rd GR σ2 x2 13) = 4 then 0 ≤ x3 ∧ x3 < ly_l (am_rd GR σ2 x2 13) ∧ (if x4 < (σ2 (am_rd GR σ2 x2 13) x3) then
      (if ly_k x2 = 27 then (if ly_k (am_rd GR σ2 x2 11) = 1 then 0 ≤ x3 ∧ x3 < ly_l (am_rd GR σ2 x2 11) ∧ am_let (w64 ((σ2 (am_rd GR σ2 x2 11) x3) + x4)) (fun y3 => (if ly_k x2 = 27 then T_Part_number [x2, (w64 (y3 + 8)), 4] σ2 (fun r4 σ5 => T_Part_bySlot [(w32 r4)] σ5 (fun r6 σ7 => (if r6 = 0 then
        X 5 [1, x1, x2, x3, x4] σ7
        else
        (if ly_k x2 = 27 then (if ly_k (am_rd GR σ7 x2 10) = 1 then 0 ≤ x3 ∧ x3 < ly_l (am_rd GR σ7 x2 10) ∧ T_LinkHouse_isShort [x2, (σ7 (am_rd GR σ7 x2 10) x3), y3] σ7 (fun r8 σ9 => (if r8 = 0 then
          (if ly_k x2 = 27 then T_Part_number [x2, (w64 (y3 + 12)), 4] σ9 (fun r10 σ11 => (if (w32 r4) = 22 then
            X 4 [1, x1, x2, x3, x4, 1, (w32 r10), x1, x2, 1] σ11
            else
            X 4 [1, x1, x2, x3, x4, 0, (w32 r10), x1, x2, 1] σ11)) else False)
          else
          X 5 [1, x1, x2, x3, x4] σ9)) else False) else False)))) else False)) else False) else False)
      else
      X 6 [1, x1, x2, x3] σ2) else False) else False)) else False) else False) else False) else False))) else False)
def B_LinkHouse_seat_4 (X : Nat → List Int → AMem → Prop) (Q : Int → AMem → Prop) (x1 x2 x3 x4 s0 s1 s2 s3 s4 : Int) (σ : AMem) : Prop :=
  (if ly_k s4 = 20 then T_LinkHouse_seatOne [s4, s3, s2, s1, s0] σ (fun r1 σ2 => X 5 [1, x1, x2, x3, x4] σ2) else False)
def B_LinkHouse_seat_5 (X : Nat → List Int → AMem → Prop) (Q : Int → AMem → Prop) (x1 x2 x3 x4 : Int) (σ : AMem) : Prop :=
  X 3 [1, x1, x2, x3, (w64 (x4 + 24))] σ
def B_LinkHouse_seat_6 (X : Nat → List Int → AMem → Prop) (Q : Int → AMem → Prop) (x1 x2 x3 : Int) (σ : AMem) : Prop :=
  am_r32 (x3 + 1) ∧ X 2 [1, x1, x2, (x3 + 1)] σ
def B_LinkHouse_seat : (Nat → List Int → AMem → Prop) → (Int → AMem → Prop) → Nat → List Int → AMem → Prop := fun X Q j v σ => am_sel [(am_v1 (fun t σ => if t = 1 then B_LinkHouse_seat_0 X Q σ else False)), (am_v2 (fun t x1 σ => if t = 1 then B_LinkHouse_seat_1 X Q x1 σ else False)), (am_v4 (fun t x1 x2 x3 σ => if t = 1 then B_LinkHouse_seat_2 X Q x1 x2 x3 σ else False)), (am_v5 (fun t x1 x2 x3 x4 σ => if t = 1 then B_LinkHouse_seat_3 X Q x1 x2 x3 x4 σ else False)), (am_v10 (fun t x1 x2 x3 x4 s0 s1 s2 s3 s4 σ => if t = 1 then B_LinkHouse_seat_4 X Q x1 x2 x3 x4 s0 s1 s2 s3 s4 σ else False)), (am_v5 (fun t x1 x2 x3 x4 σ => if t = 1 then B_LinkHouse_seat_5 X Q x1 x2 x3 x4 σ else False)), (am_v4 (fun t x1 x2 x3 σ => if t = 1 then B_LinkHouse_seat_6 X Q x1 x2 x3 σ else False))] j v σ
def T_LinkHouse_seat : List Int → AMem → (Int → AMem → Prop) → Prop := am_T B_LinkHouse_seat
abbrev y_LinkHouse_seat : MethodName := ⟨"LinkHouse", "seat", "()V"⟩
def a_LinkHouse_seat : AC := (63, (y_LinkHouse_seat, prog_1_method_20_code, 9, (Option.none : Option Jvm.ClassFile.FieldType)), [2], 3, false, { frames := 3, cells := 0, slots := 0, locals := 102 }, T_LinkHouse_seat)
set_option maxRecDepth 100000 in
theorem ms_LinkHouse_seat : am_MSp a_LinkHouse_seat := am_ms_v 3191 1 3190 101006 0 rfl (by decide +kernel)
abbrev k_LinkHouse_seat : List AC := [a_Part_isSites, a_Part_number, a_Part_bySlot, a_LinkHouse_isShort, a_LinkHouse_seatOne]
set_option maxRecDepth 100000 in
theorem s_LinkHouse_seat : (am_chkR { frames := 3, cells := 0, slots := 0, locals := 102 } k_LinkHouse_seat && am_chkN c_LinkHouse_seat { frames := 3, cells := 0, slots := 0, locals := 102 } && c_LinkHouse_seat.all (am_chk "LinkHouse" prog_1_method_20_code 9 (Option.none : Option Jvm.ClassFile.FieldType) k_LinkHouse_seat) && c_LinkHouse_seat.all (am_chkL m_LinkHouse_seat) && decide (m_LinkHouse_seat[0]? = some (0, am_argp 0 [2], [])) && decide (am_argn [2] ≤ 9)) = true := by decide +kernel
set_option maxHeartbeats 150000 in
set_option maxRecDepth 100000 in
theorem h_LinkHouse_seat : ∀ X Q j v σ, B_LinkHouse_seat X Q j v σ → am_at GR k_LinkHouse_seat c_LinkHouse_seat m_LinkHouse_seat X Q 97 j v σ := fun X Q => am_sel_all (P := fun j v σ => am_at GR k_LinkHouse_seat c_LinkHouse_seat m_LinkHouse_seat X Q 97 j v σ) (⟨(am_v1_of (fun t σ h => am_tk (fun e => by subst e; exact fun h => h) h)), ⟨(am_v2_of (fun t x1 σ h => am_tk (fun e => by subst e; exact fun h => h) h)), ⟨(am_v4_of (fun t x1 x2 x3 σ h => am_tk (fun e => by subst e; exact fun h => h) h)), ⟨(am_v5_of (fun t x1 x2 x3 x4 σ h => am_tk (fun e => by subst e; exact fun h => h) h)), ⟨(am_v10_of (fun t x1 x2 x3 x4 s0 s1 s2 s3 s4 σ h => am_tk (fun e => by subst e; exact fun h => h) h)), ⟨(am_v5_of (fun t x1 x2 x3 x4 σ h => am_tk (fun e => by subst e; exact fun h => h) h)), ⟨(am_v4_of (fun t x1 x2 x3 σ h => am_tk (fun e => by subst e; exact fun h => h) h)), trivial⟩⟩⟩⟩⟩⟩⟩)
set_option maxRecDepth 100000 in
theorem S_LinkHouse_seat (l : Launch) (w : AW) : am_S l w GR a_LinkHouse_seat := am_sound (rt := 3) (cal := k_LinkHouse_seat) 63 y_LinkHouse_seat prog_1_method_20_code 9 (Option.none : Option Jvm.ClassFile.FieldType) [2] false { frames := 3, cells := 0, slots := 0, locals := 102 } B_LinkHouse_seat "LinkHouse" c_LinkHouse_seat m_LinkHouse_seat 97 ms_LinkHouse_seat (by decide +kernel) rfl rfl (am_cal (S_Part_isSites l w) (am_cal (S_Part_number l w) (am_cal (S_Part_bySlot l w) (am_cal (S_LinkHouse_isShort l w) (am_cal (S_LinkHouse_seatOne l w) (fun _ h => absurd h List.not_mem_nil)))))) s_LinkHouse_seat h_LinkHouse_seat
set_option maxRecDepth 100000 in
theorem of_LinkHouse_seat {Q : Int → AMem → Prop} {σ : AMem} (h : ∀ X : Nat → List Int → AMem → Prop, (∀ (σ : AMem), B_LinkHouse_seat_0 X Q σ → X 0 [1] σ) → (∀ (x1 : Int) (σ : AMem), B_LinkHouse_seat_1 X Q x1 σ → X 1 [1, x1] σ) → (∀ (x1 x2 x3 : Int) (σ : AMem), B_LinkHouse_seat_2 X Q x1 x2 x3 σ → X 2 [1, x1, x2, x3] σ) → (∀ (x1 x2 x3 x4 : Int) (σ : AMem), B_LinkHouse_seat_3 X Q x1 x2 x3 x4 σ → X 3 [1, x1, x2, x3, x4] σ) → (∀ (x1 x2 x3 x4 s0 s1 s2 s3 s4 : Int) (σ : AMem), B_LinkHouse_seat_4 X Q x1 x2 x3 x4 s0 s1 s2 s3 s4 σ → X 4 [1, x1, x2, x3, x4, s0, s1, s2, s3, s4] σ) → (∀ (x1 x2 x3 x4 : Int) (σ : AMem), B_LinkHouse_seat_5 X Q x1 x2 x3 x4 σ → X 5 [1, x1, x2, x3, x4] σ) → (∀ (x1 x2 x3 : Int) (σ : AMem), B_LinkHouse_seat_6 X Q x1 x2 x3 σ → X 6 [1, x1, x2, x3] σ) → X 0 [1] σ) : T_LinkHouse_seat [1] σ Q := fun X hX => h X (fun σ h => hX 0 [1] σ h) (fun x1 σ h => hX 1 [1, x1] σ h) (fun x1 x2 x3 σ h => hX 2 [1, x1, x2, x3] σ h) (fun x1 x2 x3 x4 σ h => hX 3 [1, x1, x2, x3, x4] σ h) (fun x1 x2 x3 x4 s0 s1 s2 s3 s4 σ h => hX 4 [1, x1, x2, x3, x4, s0, s1, s2, s3, s4] σ h) (fun x1 x2 x3 x4 σ h => hX 5 [1, x1, x2, x3, x4] σ h) (fun x1 x2 x3 σ h => hX 6 [1, x1, x2, x3] σ h)
def c_Segment_has : List aE := [(0, 1, .iload_n 1, 1, 0, 0, []), (1, 0, .aload_n 0, 1, 0, 0, []), (2, 0, .getfield 7, 3, 4, 0, [0, 0, 222]), (5, 0, .if_icmp .lt 15, 3, 0, 0, []), (8, 0, .iload_n 1, 1, 0, 0, []), (9, 0, .aload_n 0, 1, 0, 0, []), (10, 0, .getfield 13, 3, 4, 1, [0, 0, 224]), (13, 0, .if_icmp .gt 7, 3, 0, 0, []), (16, 0, .iconst 1, 1, 0, 0, []), (17, 0, .goto 4, 3, 0, 0, []), (20, 0, .iconst 0, 1, 0, 0, []), (21, 0, .ireturn, 1, 1, 0, [])]
def m_Segment_has : List aT := [(0, [(0, 2), (1, 0)], [])]
def B_Segment_has_0 (X : Nat → List Int → AMem → Prop) (Q : Int → AMem → Prop) (x0 x1 : Int) (σ : AMem) : Prop :=
  (if ly_k x0 = 24 then (if x1 < (am_rd GR σ x0 0) then
  Q 0 σ
  else
  (if ly_k x0 = 24 then (if (am_rd GR σ x0 1) < x1 then
    Q 0 σ
    else
    Q 1 σ) else False)) else False)
def B_Segment_has : (Nat → List Int → AMem → Prop) → (Int → AMem → Prop) → Nat → List Int → AMem → Prop := fun X Q j v σ => am_sel [(am_v2 (fun x0 x1 σ => B_Segment_has_0 X Q x0 x1 σ))] j v σ
def T_Segment_has : List Int → AMem → (Int → AMem → Prop) → Prop := am_T B_Segment_has
abbrev y_Segment_has : MethodName := ⟨"LinkHouse$Segment", "has", "(I)Z"⟩
def a_Segment_has : AC := (64, (y_Segment_has, prog_8_method_2_code, 2, (Option.some Jvm.ClassFile.FieldType.boolean)), [2, 0], 0, false, { frames := 0, cells := 0, slots := 0, locals := 0 }, T_Segment_has)
set_option maxRecDepth 100000 in
theorem ms_Segment_has : am_MSp a_Segment_has := am_ms_v 3228 5 3226 3227 4 rfl (by decide +kernel)
abbrev k_Segment_has : List AC := []
set_option maxRecDepth 100000 in
theorem s_Segment_has : (am_chkR { frames := 0, cells := 0, slots := 0, locals := 0 } k_Segment_has && am_chkN c_Segment_has { frames := 0, cells := 0, slots := 0, locals := 0 } && c_Segment_has.all (am_chk "LinkHouse$Segment" prog_8_method_2_code 2 (Option.some Jvm.ClassFile.FieldType.boolean) k_Segment_has) && c_Segment_has.all (am_chkL m_Segment_has) && decide (m_Segment_has[0]? = some (0, am_argp 0 [2, 0], [])) && decide (am_argn [2, 0] ≤ 2)) = true := by decide +kernel
set_option maxHeartbeats 150000 in
set_option maxRecDepth 100000 in
theorem h_Segment_has : ∀ X Q j v σ, B_Segment_has X Q j v σ → am_at GR k_Segment_has c_Segment_has m_Segment_has X Q 20 j v σ := fun X Q => am_sel_all (P := fun j v σ => am_at GR k_Segment_has c_Segment_has m_Segment_has X Q 20 j v σ) (⟨(am_v2_of (fun x0 x1 σ h => h)), trivial⟩)
set_option maxRecDepth 100000 in
theorem S_Segment_has (l : Launch) (w : AW) : am_S l w GR a_Segment_has := am_sound (rt := 0) (cal := k_Segment_has) 64 y_Segment_has prog_8_method_2_code 2 (Option.some Jvm.ClassFile.FieldType.boolean) [2, 0] false { frames := 0, cells := 0, slots := 0, locals := 0 } B_Segment_has "LinkHouse$Segment" c_Segment_has m_Segment_has 20 ms_Segment_has (by decide +kernel) rfl rfl (fun _ h => absurd h List.not_mem_nil) s_Segment_has h_Segment_has
set_option maxRecDepth 100000 in
theorem of_Segment_has {Q : Int → AMem → Prop} {x0 x1 : Int} {σ : AMem} (h : ∀ X : Nat → List Int → AMem → Prop, (∀ (x0 x1 : Int) (σ : AMem), B_Segment_has_0 X Q x0 x1 σ → X 0 [x0, x1] σ) → X 0 [x0, x1] σ) : T_Segment_has [x0, x1] σ Q := fun X hX => h X (fun x0 x1 σ h => hX 0 [x0, x1] σ h)
set_option maxRecDepth 100000 in
theorem iff_Segment_has {Q : Int → AMem → Prop} {X : Nat → List Int → AMem → Prop} {x0 x1 : Int} {σ : AMem} : T_Segment_has [x0, x1] σ Q ↔ B_Segment_has_0 X Q x0 x1 σ := ⟨fun h => h (fun j v σ => B_Segment_has X Q j v σ) (fun _ _ _ q => q), fun h _ hX => hX 0 _ _ h⟩
def c_LinkHouse_isCommon : List aE := [(0, 1, .aload_n 0, 1, 0, 0, []), (1, 0, .getfield 25, 3, 0, 3, [2, 0, 1216]), (4, 0, .getfield 530, 3, 2, 2, [2, 0, 196]), (7, 0, .iload_n 1, 1, 0, 0, []), (8, 0, .aaload, 1, 6, 0, []), (9, 0, .getfield 292, 3, 3, 2, [0, 0, 120]), (12, 0, .iconst 2, 1, 0, 0, []), (13, 0, .if_icmp .ne 22, 3, 0, 0, []), (16, 0, .aload_n 0, 1, 0, 0, []), (17, 0, .getfield 25, 3, 0, 3, [2, 0, 1216]), (20, 0, .getfield 530, 3, 2, 2, [2, 0, 196]), (23, 0, .iload_n 1, 1, 0, 0, []), (24, 0, .aaload, 1, 6, 0, []), (25, 0, .getfield 366, 3, 3, 10, [0, 1, 138]), (28, 0, .ifCond .eq 7, 3, 0, 0, []), (31, 0, .iconst 1, 1, 0, 0, []), (32, 0, .goto 4, 3, 0, 0, []), (35, 0, .iconst 0, 1, 0, 0, []), (36, 0, .ireturn, 1, 1, 0, [])]
def m_LinkHouse_isCommon : List aT := [(0, [(0, 2), (1, 0)], [])]
def B_LinkHouse_isCommon_0 (X : Nat → List Int → AMem → Prop) (Q : Int → AMem → Prop) (x1 : Int) (σ : AMem) : Prop :=
  0 ≤ x1 ∧ x1 < 4128 ∧ (if ly_k (σ 19 x1) = 23 then (if (am_rd GR σ (σ 19 x1) 2) = 2 then
  0 ≤ x1 ∧ x1 < 4128 ∧ (if ly_k (σ 19 x1) = 23 then (if (am_rd GR σ (σ 19 x1) 10) = 0 then
    Q 0 σ
    else
    Q 1 σ) else False)
  else
  Q 0 σ) else False)
def B_LinkHouse_isCommon : (Nat → List Int → AMem → Prop) → (Int → AMem → Prop) → Nat → List Int → AMem → Prop := fun X Q j v σ => am_sel [(am_v2 (fun t x1 σ => if t = 1 then B_LinkHouse_isCommon_0 X Q x1 σ else False))] j v σ
def T_LinkHouse_isCommon : List Int → AMem → (Int → AMem → Prop) → Prop := am_T B_LinkHouse_isCommon
abbrev y_LinkHouse_isCommon : MethodName := ⟨"LinkHouse", "isCommon", "(I)Z"⟩
def a_LinkHouse_isCommon : AC := (65, (y_LinkHouse_isCommon, prog_1_method_35_code, 2, (Option.some Jvm.ClassFile.FieldType.boolean)), [2, 0], 0, false, { frames := 0, cells := 0, slots := 0, locals := 0 }, T_LinkHouse_isCommon)
set_option maxRecDepth 100000 in
theorem ms_LinkHouse_isCommon : am_MSp a_LinkHouse_isCommon := am_ms_v 3232 1 3231 101010 0 rfl (by decide +kernel)
abbrev k_LinkHouse_isCommon : List AC := []
set_option maxRecDepth 100000 in
theorem s_LinkHouse_isCommon : (am_chkR { frames := 0, cells := 0, slots := 0, locals := 0 } k_LinkHouse_isCommon && am_chkN c_LinkHouse_isCommon { frames := 0, cells := 0, slots := 0, locals := 0 } && c_LinkHouse_isCommon.all (am_chk "LinkHouse" prog_1_method_35_code 2 (Option.some Jvm.ClassFile.FieldType.boolean) k_LinkHouse_isCommon) && c_LinkHouse_isCommon.all (am_chkL m_LinkHouse_isCommon) && decide (m_LinkHouse_isCommon[0]? = some (0, am_argp 0 [2, 0], [])) && decide (am_argn [2, 0] ≤ 2)) = true := by decide +kernel
set_option maxHeartbeats 150000 in
set_option maxRecDepth 100000 in
theorem h_LinkHouse_isCommon : ∀ X Q j v σ, B_LinkHouse_isCommon X Q j v σ → am_at GR k_LinkHouse_isCommon c_LinkHouse_isCommon m_LinkHouse_isCommon X Q 24 j v σ := fun X Q => am_sel_all (P := fun j v σ => am_at GR k_LinkHouse_isCommon c_LinkHouse_isCommon m_LinkHouse_isCommon X Q 24 j v σ) (⟨(am_v2_of (fun t x1 σ h => am_tk (fun e => by subst e; exact fun h => h) h)), trivial⟩)
set_option maxRecDepth 100000 in
theorem S_LinkHouse_isCommon (l : Launch) (w : AW) : am_S l w GR a_LinkHouse_isCommon := am_sound (rt := 0) (cal := k_LinkHouse_isCommon) 65 y_LinkHouse_isCommon prog_1_method_35_code 2 (Option.some Jvm.ClassFile.FieldType.boolean) [2, 0] false { frames := 0, cells := 0, slots := 0, locals := 0 } B_LinkHouse_isCommon "LinkHouse" c_LinkHouse_isCommon m_LinkHouse_isCommon 24 ms_LinkHouse_isCommon (by decide +kernel) rfl rfl (fun _ h => absurd h List.not_mem_nil) s_LinkHouse_isCommon h_LinkHouse_isCommon
set_option maxRecDepth 100000 in
theorem of_LinkHouse_isCommon {Q : Int → AMem → Prop} {x1 : Int} {σ : AMem} (h : ∀ X : Nat → List Int → AMem → Prop, (∀ (x1 : Int) (σ : AMem), B_LinkHouse_isCommon_0 X Q x1 σ → X 0 [1, x1] σ) → X 0 [1, x1] σ) : T_LinkHouse_isCommon [1, x1] σ Q := fun X hX => h X (fun x1 σ h => hX 0 [1, x1] σ h)
set_option maxRecDepth 100000 in
theorem iff_LinkHouse_isCommon {Q : Int → AMem → Prop} {X : Nat → List Int → AMem → Prop} {x1 : Int} {σ : AMem} : T_LinkHouse_isCommon [1, x1] σ Q ↔ B_LinkHouse_isCommon_0 X Q x1 σ := ⟨fun h => h (fun j v σ => B_LinkHouse_isCommon X Q j v σ) (fun _ _ _ q => q), fun h _ hX => hX 0 _ _ h⟩
def c_LinkHouse_fills : List aE := [(0, 1, .aload_n 1, 1, 0, 0, []), (1, 0, .iconst 3, 1, 0, 0, []), (2, 0, .invokevirtual 533, 3, 64, 4, [3225]), (5, 0, .ifCond .eq 15, 3, 0, 0, []), (8, 0, .ldc2_w 179, 3, 8, 0, [3127]), (11, 0, .aload_n 0, 1, 0, 0, []), (12, 0, .getfield 315, 3, 0, 41, [0, 0, 2014]), (15, 0, .i2l, 1, 0, 0, []), (16, 0, .lmul, 1, 0, 0, []), (17, 0, .goto 4, 3, 0, 0, []), (20, 0, .lconst 0, 1, 0, 0, []), (21, 2, .lstore_n 2, 1, 0, 0, []), (22, 0, .iconst 0, 1, 0, 0, []), (23, 0, .istore 4, 2, 0, 0, []), (25, 3, .iload 4, 2, 0, 0, []), (27, 0, .aload_n 0, 1, 0, 0, []), (28, 0, .getfield 461, 3, 0, 22, [0, 0, 1235]), (31, 0, .if_icmp .ge 34, 3, 0, 0, []), (34, 0, .aload_n 1, 1, 0, 0, []), (35, 0, .aload_n 0, 1, 0, 0, []), (36, 0, .getfield 65, 3, 0, 14, [2, 0, 1227]), (39, 0, .iload 4, 2, 0, 0, []), (41, 0, .iaload, 1, 0, 0, []), (42, 0, .invokevirtual 533, 3, 64, 4, [3225]), (45, 0, .ifCond .eq 14, 3, 0, 0, []), (48, 0, .lload_n 2, 1, 0, 0, []), (49, 0, .aload_n 0, 1, 0, 0, []), (50, 0, .getfield 68, 3, 0, 15, [2, 0, 1228]), (53, 0, .iload 4, 2, 0, 0, []), (55, 0, .iaload, 1, 0, 0, []), (56, 0, .i2l, 1, 0, 0, []), (57, 0, .ladd, 1, 0, 0, []), (58, 0, .lstore_n 2, 1, 0, 0, []), (59, 4, .iinc 4 1, 3, 0, 0, []), (62, 0, .goto (-37), 3, 0, 0, []), (65, 0, .iconst 0, 1, 0, 0, []), (66, 0, .istore 4, 2, 0, 0, []), (68, 5, .iload 4, 2, 0, 0, []), (70, 0, .aload_n 0, 1, 0, 0, []), (71, 0, .getfield 25, 3, 0, 3, [2, 0, 1216]), (74, 0, .getfield 536, 3, 2, 4, [0, 0, 200]), (77, 0, .if_icmp .ge 42, 3, 0, 0, []), (80, 0, .aload_n 1, 1, 0, 0, []), (81, 0, .iconst 3, 1, 0, 0, []), (82, 0, .invokevirtual 533, 3, 64, 4, [3225]), (85, 0, .ifCond .eq 34, 3, 0, 0, []), (88, 0, .aload_n 0, 1, 0, 0, []), (89, 0, .iload 4, 2, 0, 0, []), (91, 0, .invokevirtual 539, 3, 65, 0, [3229]), (94, 0, .ifCond .eq 19, 3, 0, 0, []), (97, 0, .lload_n 2, 1, 0, 0, []), (98, 0, .aload_n 0, 1, 0, 0, []), (99, 0, .getfield 25, 3, 0, 3, [2, 0, 1216]), (102, 0, .getfield 530, 3, 2, 2, [2, 0, 196]), (105, 0, .iload 4, 2, 0, 0, []), (107, 0, .aaload, 1, 6, 0, []), (108, 0, .getfield 542, 3, 3, 12, [1, 0, 143]), (111, 0, .ladd, 1, 0, 0, []), (112, 0, .lstore_n 2, 1, 0, 0, []), (113, 6, .iinc 4 1, 3, 0, 0, []), (116, 0, .goto (-48), 3, 0, 0, []), (119, 7, .lload_n 2, 1, 0, 0, []), (120, 0, .lconst 0, 1, 0, 0, []), (121, 0, .lcmp, 1, 0, 0, []), (122, 0, .ifCond .le 7, 3, 0, 0, []), (125, 0, .iconst 1, 1, 0, 0, []), (126, 0, .goto 4, 3, 0, 0, []), (129, 0, .iconst 0, 1, 0, 0, []), (130, 0, .ireturn, 1, 1, 0, [])]
def m_LinkHouse_fills : List aT := [(0, [(0, 2), (1, 2)], []), (21, [(0, 2), (1, 2)], [1]), (25, [(0, 2), (1, 2), (2, 1), (4, 0)], []), (59, [(0, 2), (1, 2), (2, 1), (4, 0)], []), (68, [(0, 2), (1, 2), (2, 1), (4, 0)], []), (113, [(0, 2), (1, 2), (2, 1), (4, 0)], []), (119, [(2, 1)], [])]
def B_LinkHouse_fills_0 (X : Nat → List Int → AMem → Prop) (Q : Int → AMem → Prop) (x1 : Int) (σ : AMem) : Prop :=
  (if ly_k x1 = 24 then T_Segment_has [x1, 3] σ (fun r1 σ2 => (if r1 = 0 then
  X 1 [1, x1, 0] σ2
  else
  X 1 [1, x1, (w64 (8 * (σ2 1 41)))] σ2)) else False)
def B_LinkHouse_fills_1 (X : Nat → List Int → AMem → Prop) (Q : Int → AMem → Prop) (x1 s0 : Int) (σ : AMem) : Prop :=
  X 2 [1, x1, s0, 0] σ
def B_LinkHouse_fills_2 (X : Nat → List Int → AMem → Prop) (Q : Int → AMem → Prop) (x1 x2 x4 : Int) (σ : AMem) : Prop :=
  (if x4 < (σ 1 22) then
  0 ≤ x4 ∧ x4 < 1536 ∧ (if ly_k x1 = 24 then T_Segment_has [x1, (σ 8286 x4)] σ (fun r1 σ2 => (if r1 = 0 then
    X 3 [1, x1, x2, x4] σ2
    else
    0 ≤ x4 ∧ x4 < 1536 ∧ X 3 [1, x1, (w64 (x2 + (σ2 8287 x4))), x4] σ2)) else False)
  else
  X 4 [1, x1, x2, 0] σ)
def B_LinkHouse_fills_3 (X : Nat → List Int → AMem → Prop) (Q : Int → AMem → Prop) (x1 x2 x4 : Int) (σ : AMem) : Prop :=
  am_r32 (x4 + 1) ∧ X 2 [1, x1, x2, (x4 + 1)] σ
def B_LinkHouse_fills_4 (X : Nat → List Int → AMem → Prop) (Q : Int → AMem → Prop) (x1 x2 x4 : Int) (σ : AMem) : Prop :=
  (if x4 < (σ 16 4) then
  (if ly_k x1 = 24 then T_Segment_has [x1, 3] σ (fun r1 σ2 => (if r1 = 0 then
    X 6 [x2] σ2
    else
    T_LinkHouse_isCommon [1, x4] σ2 (fun r3 σ4 => (if r3 = 0 then
      X 5 [1, x1, x2, x4] σ4
      else
      0 ≤ x4 ∧ x4 < 4128 ∧ (if ly_k (σ4 19 x4) = 23 then am_let (w64 (x2 + (am_rd GR σ4 (σ4 19 x4) 12))) (fun y5 => X 5 [1, x1, y5, x4] σ4) else False))))) else False)
  else
  X 6 [x2] σ)
def B_LinkHouse_fills_5 (X : Nat → List Int → AMem → Prop) (Q : Int → AMem → Prop) (x1 x2 x4 : Int) (σ : AMem) : Prop :=
  am_r32 (x4 + 1) ∧ X 4 [1, x1, x2, (x4 + 1)] σ
def B_LinkHouse_fills_6 (X : Nat → List Int → AMem → Prop) (Q : Int → AMem → Prop) (x2 : Int) (σ : AMem) : Prop :=
  (if 0 < x2 then
  Q 1 σ
  else
  Q 0 σ)
def B_LinkHouse_fills : (Nat → List Int → AMem → Prop) → (Int → AMem → Prop) → Nat → List Int → AMem → Prop := fun X Q j v σ => am_sel [(am_v2 (fun t x1 σ => if t = 1 then B_LinkHouse_fills_0 X Q x1 σ else False)), (am_v3 (fun t x1 s0 σ => if t = 1 then B_LinkHouse_fills_1 X Q x1 s0 σ else False)), (am_v4 (fun t x1 x2 x4 σ => if t = 1 then B_LinkHouse_fills_2 X Q x1 x2 x4 σ else False)), (am_v4 (fun t x1 x2 x4 σ => if t = 1 then B_LinkHouse_fills_3 X Q x1 x2 x4 σ else False)), (am_v4 (fun t x1 x2 x4 σ => if t = 1 then B_LinkHouse_fills_4 X Q x1 x2 x4 σ else False)), (am_v4 (fun t x1 x2 x4 σ => if t = 1 then B_LinkHouse_fills_5 X Q x1 x2 x4 σ else False)), (am_v1 (fun x2 σ => B_LinkHouse_fills_6 X Q x2 σ))] j v σ
def T_LinkHouse_fills : List Int → AMem → (Int → AMem → Prop) → Prop := am_T B_LinkHouse_fills
abbrev y_LinkHouse_fills : MethodName := ⟨"LinkHouse", "fills", "(LLinkHouse$Segment;)Z"⟩
def a_LinkHouse_fills : AC := (66, (y_LinkHouse_fills, prog_1_method_36_code, 5, (Option.some Jvm.ClassFile.FieldType.boolean)), [2, 2], 0, false, { frames := 1, cells := 0, slots := 0, locals := 29 }, T_LinkHouse_fills)
set_option maxRecDepth 100000 in
theorem ms_LinkHouse_fills : am_MSp a_LinkHouse_fills := am_ms_v 3224 1 3223 101009 0 rfl (by decide +kernel)
abbrev k_LinkHouse_fills : List AC := [a_Segment_has, a_LinkHouse_isCommon]
set_option maxRecDepth 100000 in
theorem s_LinkHouse_fills : (am_chkR { frames := 1, cells := 0, slots := 0, locals := 29 } k_LinkHouse_fills && am_chkN c_LinkHouse_fills { frames := 1, cells := 0, slots := 0, locals := 29 } && c_LinkHouse_fills.all (am_chk "LinkHouse" prog_1_method_36_code 5 (Option.some Jvm.ClassFile.FieldType.boolean) k_LinkHouse_fills) && c_LinkHouse_fills.all (am_chkL m_LinkHouse_fills) && decide (m_LinkHouse_fills[0]? = some (0, am_argp 0 [2, 2], [])) && decide (am_argn [2, 2] ≤ 5)) = true := by decide +kernel
set_option maxHeartbeats 150000 in
set_option maxRecDepth 100000 in
theorem h_LinkHouse_fills : ∀ X Q j v σ, B_LinkHouse_fills X Q j v σ → am_at GR k_LinkHouse_fills c_LinkHouse_fills m_LinkHouse_fills X Q 74 j v σ := fun X Q => am_sel_all (P := fun j v σ => am_at GR k_LinkHouse_fills c_LinkHouse_fills m_LinkHouse_fills X Q 74 j v σ) (⟨(am_v2_of (fun t x1 σ h => am_tk (fun e => by subst e; exact fun h => h) h)), ⟨(am_v3_of (fun t x1 s0 σ h => am_tk (fun e => by subst e; exact fun h => h) h)), ⟨(am_v4_of (fun t x1 x2 x4 σ h => am_tk (fun e => by subst e; exact fun h => h) h)), ⟨(am_v4_of (fun t x1 x2 x4 σ h => am_tk (fun e => by subst e; exact fun h => h) h)), ⟨(am_v4_of (fun t x1 x2 x4 σ h => am_tk (fun e => by subst e; exact fun h => h) h)), ⟨(am_v4_of (fun t x1 x2 x4 σ h => am_tk (fun e => by subst e; exact fun h => h) h)), ⟨(am_v1_of (fun x2 σ h => h)), trivial⟩⟩⟩⟩⟩⟩⟩)
set_option maxRecDepth 100000 in
theorem S_LinkHouse_fills (l : Launch) (w : AW) : am_S l w GR a_LinkHouse_fills := am_sound (rt := 0) (cal := k_LinkHouse_fills) 66 y_LinkHouse_fills prog_1_method_36_code 5 (Option.some Jvm.ClassFile.FieldType.boolean) [2, 2] false { frames := 1, cells := 0, slots := 0, locals := 29 } B_LinkHouse_fills "LinkHouse" c_LinkHouse_fills m_LinkHouse_fills 74 ms_LinkHouse_fills (by decide +kernel) rfl rfl (am_cal (S_Segment_has l w) (am_cal (S_LinkHouse_isCommon l w) (fun _ h => absurd h List.not_mem_nil))) s_LinkHouse_fills h_LinkHouse_fills
set_option maxRecDepth 100000 in
theorem of_LinkHouse_fills {Q : Int → AMem → Prop} {x1 : Int} {σ : AMem} (h : ∀ X : Nat → List Int → AMem → Prop, (∀ (x1 : Int) (σ : AMem), B_LinkHouse_fills_0 X Q x1 σ → X 0 [1, x1] σ) → (∀ (x1 s0 : Int) (σ : AMem), B_LinkHouse_fills_1 X Q x1 s0 σ → X 1 [1, x1, s0] σ) → (∀ (x1 x2 x4 : Int) (σ : AMem), B_LinkHouse_fills_2 X Q x1 x2 x4 σ → X 2 [1, x1, x2, x4] σ) → (∀ (x1 x2 x4 : Int) (σ : AMem), B_LinkHouse_fills_3 X Q x1 x2 x4 σ → X 3 [1, x1, x2, x4] σ) → (∀ (x1 x2 x4 : Int) (σ : AMem), B_LinkHouse_fills_4 X Q x1 x2 x4 σ → X 4 [1, x1, x2, x4] σ) → (∀ (x1 x2 x4 : Int) (σ : AMem), B_LinkHouse_fills_5 X Q x1 x2 x4 σ → X 5 [1, x1, x2, x4] σ) → (∀ (x2 : Int) (σ : AMem), B_LinkHouse_fills_6 X Q x2 σ → X 6 [x2] σ) → X 0 [1, x1] σ) : T_LinkHouse_fills [1, x1] σ Q := fun X hX => h X (fun x1 σ h => hX 0 [1, x1] σ h) (fun x1 s0 σ h => hX 1 [1, x1, s0] σ h) (fun x1 x2 x4 σ h => hX 2 [1, x1, x2, x4] σ h) (fun x1 x2 x4 σ h => hX 3 [1, x1, x2, x4] σ h) (fun x1 x2 x4 σ h => hX 4 [1, x1, x2, x4] σ h) (fun x1 x2 x4 σ h => hX 5 [1, x1, x2, x4] σ h) (fun x2 σ h => hX 6 [x2] σ h)
def c_LinkHouse_isThreaded : List aE := [(0, 1, .iconst 0, 1, 0, 0, []), (1, 0, .istore_n 1, 1, 0, 0, []), (2, 0, .iconst 0, 1, 0, 0, []), (3, 0, .istore_n 2, 1, 0, 0, []), (4, 2, .iload_n 2, 1, 0, 0, []), (5, 0, .aload_n 0, 1, 0, 0, []), (6, 0, .getfield 461, 3, 0, 22, [0, 0, 1235]), (9, 0, .if_icmp .ge 38, 3, 0, 0, []), (12, 0, .iload_n 1, 1, 0, 0, []), (13, 0, .ifCond .ne 22, 3, 0, 0, []), (16, 0, .aload_n 0, 1, 0, 0, []), (17, 0, .getfield 65, 3, 0, 14, [2, 0, 1227]), (20, 0, .iload_n 2, 1, 0, 0, []), (21, 0, .iaload, 1, 0, 0, []), (22, 0, .iconst 3, 1, 0, 0, []), (23, 0, .if_icmp .le 16, 3, 0, 0, []), (26, 0, .aload_n 0, 1, 0, 0, []), (27, 0, .getfield 68, 3, 0, 15, [2, 0, 1228]), (30, 0, .iload_n 2, 1, 0, 0, []), (31, 0, .iaload, 1, 0, 0, []), (32, 0, .ifCond .le 7, 3, 0, 0, []), (35, 3, .iconst 1, 1, 0, 0, []), (36, 0, .goto 4, 3, 0, 0, []), (39, 4, .iconst 0, 1, 0, 0, []), (40, 5, .istore_n 1, 1, 0, 0, []), (41, 0, .iinc 2 1, 3, 0, 0, []), (44, 0, .goto (-40), 3, 0, 0, []), (47, 0, .iload_n 1, 1, 0, 0, []), (48, 0, .ireturn, 1, 1, 0, [])]
def m_LinkHouse_isThreaded : List aT := [(0, [(0, 2)], []), (4, [(0, 2), (1, 0), (2, 0)], []), (35, [(0, 2), (2, 0)], []), (39, [(0, 2), (2, 0)], []), (40, [(0, 2), (2, 0)], [0])]
def B_LinkHouse_isThreaded_0 (X : Nat → List Int → AMem → Prop) (Q : Int → AMem → Prop) (σ : AMem) : Prop :=
  X 1 [1, 0, 0] σ
def B_LinkHouse_isThreaded_1 (X : Nat → List Int → AMem → Prop) (Q : Int → AMem → Prop) (x1 x2 : Int) (σ : AMem) : Prop :=
  (if x2 < (σ 1 22) then
  (if x1 = 0 then
    0 ≤ x2 ∧ x2 < 1536 ∧ (if 3 < (σ 8286 x2) then
      0 ≤ x2 ∧ x2 < 1536 ∧ (if 0 < (σ 8287 x2) then
        X 2 [1, x2] σ
        else
        X 3 [1, x2] σ)
      else
      X 3 [1, x2] σ)
    else
    X 2 [1, x2] σ)
  else
  (if x1 = 0 ∨ x1 = 1 then Q x1 σ else False))
def B_LinkHouse_isThreaded_2 (X : Nat → List Int → AMem → Prop) (Q : Int → AMem → Prop) (x2 : Int) (σ : AMem) : Prop :=
  X 4 [1, x2, 1] σ
def B_LinkHouse_isThreaded_3 (X : Nat → List Int → AMem → Prop) (Q : Int → AMem → Prop) (x2 : Int) (σ : AMem) : Prop :=
  X 4 [1, x2, 0] σ
def B_LinkHouse_isThreaded_4 (X : Nat → List Int → AMem → Prop) (Q : Int → AMem → Prop) (x2 s0 : Int) (σ : AMem) : Prop :=
  am_r32 (x2 + 1) ∧ X 1 [1, s0, (x2 + 1)] σ
def B_LinkHouse_isThreaded : (Nat → List Int → AMem → Prop) → (Int → AMem → Prop) → Nat → List Int → AMem → Prop := fun X Q j v σ => am_sel [(am_v1 (fun t σ => if t = 1 then B_LinkHouse_isThreaded_0 X Q σ else False)), (am_v3 (fun t x1 x2 σ => if t = 1 then B_LinkHouse_isThreaded_1 X Q x1 x2 σ else False)), (am_v2 (fun t x2 σ => if t = 1 then B_LinkHouse_isThreaded_2 X Q x2 σ else False)), (am_v2 (fun t x2 σ => if t = 1 then B_LinkHouse_isThreaded_3 X Q x2 σ else False)), (am_v3 (fun t x2 s0 σ => if t = 1 then B_LinkHouse_isThreaded_4 X Q x2 s0 σ else False))] j v σ
def T_LinkHouse_isThreaded : List Int → AMem → (Int → AMem → Prop) → Prop := am_T B_LinkHouse_isThreaded
abbrev y_LinkHouse_isThreaded : MethodName := ⟨"LinkHouse", "isThreaded", "()Z"⟩
def a_LinkHouse_isThreaded : AC := (67, (y_LinkHouse_isThreaded, prog_1_method_39_code, 3, (Option.some Jvm.ClassFile.FieldType.boolean)), [2], 0, false, { frames := 0, cells := 0, slots := 0, locals := 0 }, T_LinkHouse_isThreaded)
set_option maxRecDepth 100000 in
theorem ms_LinkHouse_isThreaded : am_MSp a_LinkHouse_isThreaded := am_ms_v 3238 1 3237 101011 0 rfl (by decide +kernel)
abbrev k_LinkHouse_isThreaded : List AC := []
set_option maxRecDepth 100000 in
theorem s_LinkHouse_isThreaded : (am_chkR { frames := 0, cells := 0, slots := 0, locals := 0 } k_LinkHouse_isThreaded && am_chkN c_LinkHouse_isThreaded { frames := 0, cells := 0, slots := 0, locals := 0 } && c_LinkHouse_isThreaded.all (am_chk "LinkHouse" prog_1_method_39_code 3 (Option.some Jvm.ClassFile.FieldType.boolean) k_LinkHouse_isThreaded) && c_LinkHouse_isThreaded.all (am_chkL m_LinkHouse_isThreaded) && decide (m_LinkHouse_isThreaded[0]? = some (0, am_argp 0 [2], [])) && decide (am_argn [2] ≤ 3)) = true := by decide +kernel
set_option maxHeartbeats 150000 in
set_option maxRecDepth 100000 in
theorem h_LinkHouse_isThreaded : ∀ X Q j v σ, B_LinkHouse_isThreaded X Q j v σ → am_at GR k_LinkHouse_isThreaded c_LinkHouse_isThreaded m_LinkHouse_isThreaded X Q 34 j v σ := fun X Q => am_sel_all (P := fun j v σ => am_at GR k_LinkHouse_isThreaded c_LinkHouse_isThreaded m_LinkHouse_isThreaded X Q 34 j v σ) (⟨(am_v1_of (fun t σ h => am_tk (fun e => by subst e; exact fun h => h) h)), ⟨(am_v3_of (fun t x1 x2 σ h => am_tk (fun e => by subst e; exact fun h => h) h)), ⟨(am_v2_of (fun t x2 σ h => am_tk (fun e => by subst e; exact fun h => h) h)), ⟨(am_v2_of (fun t x2 σ h => am_tk (fun e => by subst e; exact fun h => h) h)), ⟨(am_v3_of (fun t x2 s0 σ h => am_tk (fun e => by subst e; exact fun h => h) h)), trivial⟩⟩⟩⟩⟩)
set_option maxRecDepth 100000 in
theorem S_LinkHouse_isThreaded (l : Launch) (w : AW) : am_S l w GR a_LinkHouse_isThreaded := am_sound (rt := 0) (cal := k_LinkHouse_isThreaded) 67 y_LinkHouse_isThreaded prog_1_method_39_code 3 (Option.some Jvm.ClassFile.FieldType.boolean) [2] false { frames := 0, cells := 0, slots := 0, locals := 0 } B_LinkHouse_isThreaded "LinkHouse" c_LinkHouse_isThreaded m_LinkHouse_isThreaded 34 ms_LinkHouse_isThreaded (by decide +kernel) rfl rfl (fun _ h => absurd h List.not_mem_nil) s_LinkHouse_isThreaded h_LinkHouse_isThreaded
set_option maxRecDepth 100000 in
theorem of_LinkHouse_isThreaded {Q : Int → AMem → Prop} {σ : AMem} (h : ∀ X : Nat → List Int → AMem → Prop, (∀ (σ : AMem), B_LinkHouse_isThreaded_0 X Q σ → X 0 [1] σ) → (∀ (x1 x2 : Int) (σ : AMem), B_LinkHouse_isThreaded_1 X Q x1 x2 σ → X 1 [1, x1, x2] σ) → (∀ (x2 : Int) (σ : AMem), B_LinkHouse_isThreaded_2 X Q x2 σ → X 2 [1, x2] σ) → (∀ (x2 : Int) (σ : AMem), B_LinkHouse_isThreaded_3 X Q x2 σ → X 3 [1, x2] σ) → (∀ (x2 s0 : Int) (σ : AMem), B_LinkHouse_isThreaded_4 X Q x2 s0 σ → X 4 [1, x2, s0] σ) → X 0 [1] σ) : T_LinkHouse_isThreaded [1] σ Q := fun X hX => h X (fun σ h => hX 0 [1] σ h) (fun x1 x2 σ h => hX 1 [1, x1, x2] σ h) (fun x2 σ h => hX 2 [1, x2] σ h) (fun x2 σ h => hX 3 [1, x2] σ h) (fun x2 s0 σ h => hX 4 [1, x2, s0] σ h)
def c_LinkHouse_up : List aE := [(0, 1, .lload_n 2, 1, 0, 0, []), (1, 0, .ldc2_w 440, 3, 2, 0, [3200]), (4, 0, .lcmp, 1, 0, 0, []), (5, 0, .ifCond .ge 7, 3, 0, 0, []), (8, 0, .lload_n 0, 1, 0, 0, []), (9, 0, .goto 11, 3, 0, 0, []), (12, 0, .lload_n 0, 1, 0, 0, []), (13, 0, .lload_n 2, 1, 0, 0, []), (14, 0, .ladd, 1, 0, 0, []), (15, 0, .lconst 1, 1, 0, 0, []), (16, 0, .lsub, 1, 0, 0, []), (17, 0, .lload_n 2, 1, 0, 0, []), (18, 0, .lneg, 1, 0, 0, []), (19, 0, .land, 1, 0, 0, []), (20, 0, .lreturn, 1, 0, 0, [])]
def m_LinkHouse_up : List aT := [(0, [(0, 1), (2, 1)], [])]
def B_LinkHouse_up_0 (X : Nat → List Int → AMem → Prop) (Q : Int → AMem → Prop) (x0 x2 : Int) (σ : AMem) : Prop :=
  (if x2 < 2 then
  Q x0 σ
  else
  Q (l_and (w64 ((w64 (x0 + x2)) - 1)) (w64 (-x2))) σ)
def B_LinkHouse_up : (Nat → List Int → AMem → Prop) → (Int → AMem → Prop) → Nat → List Int → AMem → Prop := fun X Q j v σ => am_sel [(am_v2 (fun x0 x2 σ => B_LinkHouse_up_0 X Q x0 x2 σ))] j v σ
def T_LinkHouse_up : List Int → AMem → (Int → AMem → Prop) → Prop := am_T B_LinkHouse_up
abbrev y_LinkHouse_up : MethodName := ⟨"LinkHouse", "up", "(JJ)J"⟩
def a_LinkHouse_up : AC := (68, (y_LinkHouse_up, prog_1_method_29_code, 4, (Option.some Jvm.ClassFile.FieldType.long)), [1, 1], 1, true, { frames := 0, cells := 0, slots := 0, locals := 0 }, T_LinkHouse_up)
set_option maxRecDepth 100000 in
theorem ms_LinkHouse_up : am_MSp a_LinkHouse_up := am_ms_s 4002 1 4001 rfl (by decide +kernel)
abbrev k_LinkHouse_up : List AC := []
set_option maxRecDepth 100000 in
theorem s_LinkHouse_up : (am_chkR { frames := 0, cells := 0, slots := 0, locals := 0 } k_LinkHouse_up && am_chkN c_LinkHouse_up { frames := 0, cells := 0, slots := 0, locals := 0 } && c_LinkHouse_up.all (am_chk "LinkHouse" prog_1_method_29_code 4 (Option.some Jvm.ClassFile.FieldType.long) k_LinkHouse_up) && c_LinkHouse_up.all (am_chkL m_LinkHouse_up) && decide (m_LinkHouse_up[0]? = some (0, am_argp 0 [1, 1], [])) && decide (am_argn [1, 1] ≤ 4)) = true := by decide +kernel
set_option maxHeartbeats 150000 in
set_option maxRecDepth 100000 in
theorem h_LinkHouse_up : ∀ X Q j v σ, B_LinkHouse_up X Q j v σ → am_at GR k_LinkHouse_up c_LinkHouse_up m_LinkHouse_up X Q 20 j v σ := fun X Q => am_sel_all (P := fun j v σ => am_at GR k_LinkHouse_up c_LinkHouse_up m_LinkHouse_up X Q 20 j v σ) (⟨(am_v2_of (fun x0 x2 σ h => h)), trivial⟩)
set_option maxRecDepth 100000 in
theorem S_LinkHouse_up (l : Launch) (w : AW) : am_S l w GR a_LinkHouse_up := am_sound (rt := 1) (cal := k_LinkHouse_up) 68 y_LinkHouse_up prog_1_method_29_code 4 (Option.some Jvm.ClassFile.FieldType.long) [1, 1] true { frames := 0, cells := 0, slots := 0, locals := 0 } B_LinkHouse_up "LinkHouse" c_LinkHouse_up m_LinkHouse_up 20 ms_LinkHouse_up (by decide +kernel) rfl rfl (fun _ h => absurd h List.not_mem_nil) s_LinkHouse_up h_LinkHouse_up
set_option maxRecDepth 100000 in
theorem of_LinkHouse_up {Q : Int → AMem → Prop} {x0 x2 : Int} {σ : AMem} (h : ∀ X : Nat → List Int → AMem → Prop, (∀ (x0 x2 : Int) (σ : AMem), B_LinkHouse_up_0 X Q x0 x2 σ → X 0 [x0, x2] σ) → X 0 [x0, x2] σ) : T_LinkHouse_up [x0, x2] σ Q := fun X hX => h X (fun x0 x2 σ h => hX 0 [x0, x2] σ h)
set_option maxRecDepth 100000 in
theorem iff_LinkHouse_up {Q : Int → AMem → Prop} {X : Nat → List Int → AMem → Prop} {x0 x2 : Int} {σ : AMem} : T_LinkHouse_up [x0, x2] σ Q ↔ B_LinkHouse_up_0 X Q x0 x2 σ := ⟨fun h => h (fun j v σ => B_LinkHouse_up X Q j v σ) (fun _ _ _ q => q), fun h _ hX => hX 0 _ _ h⟩
def c_LinkHouse_lay : List aE := [(0, 1, .lload_n 3, 1, 0, 0, []), (1, 0, .lstore 5, 2, 0, 0, []), (3, 0, .iconst 0, 1, 0, 0, []), (4, 0, .istore 7, 2, 0, 0, []), (6, 2, .iload 7, 2, 0, 0, []), (8, 0, .aload_n 0, 1, 0, 0, []), (9, 0, .getfield 461, 3, 0, 22, [0, 0, 1235]), (12, 0, .if_icmp .ge 136, 3, 0, 0, []), (15, 0, .aload_n 0, 1, 0, 0, []), (16, 0, .getfield 65, 3, 0, 14, [2, 0, 1227]), (19, 0, .iload 7, 2, 0, 0, []), (21, 0, .iaload, 1, 0, 0, []), (22, 0, .iload_n 2, 1, 0, 0, []), (23, 0, .if_icmp .ne 119, 3, 0, 0, []), (26, 0, .aload_n 0, 1, 0, 0, []), (27, 0, .iload 7, 2, 0, 0, []), (29, 0, .invokevirtual 474, 3, 47, 0, [3157]), (32, 0, .ifCond .eq 6, 3, 0, 0, []), (35, 0, .goto 107, 3, 0, 0, []), (38, 0, .aload_n 0, 1, 0, 0, []), (39, 0, .getfield 42, 3, 0, 7, [2, 0, 1220]), (42, 0, .aload_n 0, 1, 0, 0, []), (43, 0, .getfield 53, 3, 0, 10, [2, 0, 1223]), (46, 0, .iload 7, 2, 0, 0, []), (48, 0, .iaload, 1, 0, 0, []), (49, 0, .aaload, 1, 5, 0, []), (50, 0, .astore 8, 2, 0, 0, []), (52, 0, .aload_n 1, 1, 0, 0, []), (53, 0, .getfield 545, 3, 4, 3, [0, 1, 227]), (56, 0, .ifCond .eq 24, 3, 0, 0, []), (59, 0, .lload 5, 2, 0, 0, []), (61, 0, .aload 8, 2, 0, 0, []), (63, 0, .getfield 512, 3, 7, 14, [2, 0, 1096]), (66, 0, .aload_n 0, 1, 0, 0, []), (67, 0, .getfield 62, 3, 0, 13, [2, 0, 1226]), (70, 0, .iload 7, 2, 0, 0, []), (72, 0, .iaload, 1, 0, 0, []), (73, 0, .laload, 1, 0, 0, []), (74, 0, .invokestatic 524, 3, 68, 0, [4000]), (77, 0, .goto 5, 3, 0, 0, []), (80, 0, .lload 5, 2, 0, 0, []), (82, 3, .lstore 5, 2, 0, 0, []), (84, 0, .aload_n 0, 1, 0, 0, []), (85, 0, .getfield 71, 3, 0, 16, [2, 0, 1229]), (88, 0, .iload 7, 2, 0, 0, []), (90, 0, .lload 5, 2, 0, 0, []), (92, 0, .lastore, 1, 0, 0, []), (93, 0, .aload 8, 2, 0, 0, []), (95, 0, .getfield 494, 3, 7, 15, [2, 0, 1098]), (98, 0, .aload_n 0, 1, 0, 0, []), (99, 0, .getfield 62, 3, 0, 13, [2, 0, 1226]), (102, 0, .iload 7, 2, 0, 0, []), (104, 0, .iaload, 1, 0, 0, []), (105, 0, .lload 5, 2, 0, 0, []), (107, 0, .lastore, 1, 0, 0, []), (108, 0, .lload 5, 2, 0, 0, []), (110, 0, .aload_n 0, 1, 0, 0, []), (111, 0, .getfield 68, 3, 0, 15, [2, 0, 1228]), (114, 0, .iload 7, 2, 0, 0, []), (116, 0, .iaload, 1, 0, 0, []), (117, 0, .i2l, 1, 0, 0, []), (118, 0, .ladd, 1, 0, 0, []), (119, 0, .lstore 5, 2, 0, 0, []), (121, 0, .iload_n 2, 1, 0, 0, []), (122, 0, .iconst 3, 1, 0, 0, []), (123, 0, .if_icmp .eq 19, 3, 0, 0, []), (126, 0, .iload_n 2, 1, 0, 0, []), (127, 0, .iconst 5, 1, 0, 0, []), (128, 0, .if_icmp .eq 14, 3, 0, 0, []), (131, 0, .aload_n 1, 1, 0, 0, []), (132, 0, .lload 5, 2, 0, 0, []), (134, 0, .aload_n 1, 1, 0, 0, []), (135, 0, .getfield 487, 3, 4, 5, [1, 0, 229]), (138, 0, .lsub, 1, 0, 0, []), (139, 0, .putfield 488, 3, 4, 6, [1, 0, 230]), (142, 4, .iinc 7 1, 3, 0, 0, []), (145, 0, .goto (-139), 3, 0, 0, []), (148, 0, .lload 5, 2, 0, 0, []), (150, 0, .lreturn, 1, 0, 0, [])]
def m_LinkHouse_lay : List aT := [(0, [(0, 2), (1, 2), (2, 0), (3, 1)], []), (6, [(0, 2), (1, 2), (2, 0), (5, 1), (7, 0)], []), (82, [(0, 2), (1, 2), (2, 0), (7, 0), (8, 2)], [1]), (142, [(0, 2), (1, 2), (2, 0), (5, 1), (7, 0)], [])]
def B_LinkHouse_lay_0 (X : Nat → List Int → AMem → Prop) (Q : Int → AMem → Prop) (x1 x2 x3 : Int) (σ : AMem) : Prop :=
  X 1 [1, x1, x2, x3, 0] σ
def B_LinkHouse_lay_1 (X : Nat → List Int → AMem → Prop) (Q : Int → AMem → Prop) (x1 x2 x5 x7 : Int) (σ : AMem) : Prop :=
  (if x7 < (σ 1 22) then
  0 ≤ x7 ∧ x7 < 1536 ∧ (if (σ 8286 x7) = x2 then
    T_LinkHouse_isPooled [1, x7] σ (fun r1 σ2 => (if r1 = 0 then
      0 ≤ x7 ∧ x7 < 1536 ∧ 0 ≤ (σ2 8282 x7) ∧ (σ2 8282 x7) < 64 ∧ (if ly_k x1 = 24 then (if (am_rd GR σ2 x1 3) = 0 then
        X 2 [1, x1, x2, x7, (σ2 8279 (σ2 8282 x7)), x5] σ2
        else
        (if ly_k (σ2 8279 (σ2 8282 x7)) = 27 then 0 ≤ x7 ∧ x7 < 1536 ∧ (if ly_k (am_rd GR σ2 (σ2 8279 (σ2 8282 x7)) 14) = 4 then 0 ≤ (σ2 8285 x7) ∧ (σ2 8285 x7) < ly_l (am_rd GR σ2 (σ2 8279 (σ2 8282 x7)) 14) ∧ T_LinkHouse_up [x5, (σ2 (am_rd GR σ2 (σ2 8279 (σ2 8282 x7)) 14) (σ2 8285 x7))] σ2 (fun r3 σ4 => X 2 [1, x1, x2, x7, (σ2 8279 (σ2 8282 x7)), r3] σ4) else False) else False)) else False)
      else
      X 3 [1, x1, x2, x5, x7] σ2))
    else
    X 3 [1, x1, x2, x5, x7] σ)
  else
  Q x5 σ)
def B_LinkHouse_lay_2 (X : Nat → List Int → AMem → Prop) (Q : Int → AMem → Prop) (x1 x2 x7 x8 s0 : Int) (σ : AMem) : Prop :=
  0 ≤ x7 ∧ x7 < 1536 ∧ am_let (am_upd σ 8288 x7 s0) (fun σ1 => (if ly_k x8 = 27 then 0 ≤ x7 ∧ x7 < 1536 ∧ (if ly_k (am_rd GR σ1 x8 15) = 4 then 0 ≤ (σ1 8285 x7) ∧ (σ1 8285 x7) < ly_l (am_rd GR σ1 x8 15) ∧ am_let (am_upd σ1 (am_rd GR σ1 x8 15) (σ1 8285 x7) s0) (fun σ2 => 0 ≤ x7 ∧ x7 < 1536 ∧ (if x2 = 3 then
  X 3 [1, x1, x2, (w64 (s0 + (σ2 8287 x7))), x7] σ2
  else
  (if x2 = 5 then
    X 3 [1, x1, x2, (w64 (s0 + (σ2 8287 x7))), x7] σ2
    else
    (if ly_k x1 = 24 then (if ly_k x1 = 24 then (if ly_fin x1 6 = 0 then am_let (am_upd σ2 x1 6 (w64 ((w64 (s0 + (σ2 8287 x7))) - (am_rd GR σ2 x1 5)))) (fun σ3 => X 3 [1, x1, x2, (w64 (s0 + (σ2 8287 x7))), x7] σ3) else False) else False) else False)))) else False) else False))
def B_LinkHouse_lay_3 (X : Nat → List Int → AMem → Prop) (Q : Int → AMem → Prop) (x1 x2 x5 x7 : Int) (σ : AMem) : Prop :=
  am_r32 (x7 + 1) ∧ X 1 [1, x1, x2, x5, (x7 + 1)] σ
def B_LinkHouse_lay : (Nat → List Int → AMem → Prop) → (Int → AMem → Prop) → Nat → List Int → AMem → Prop := fun X Q j v σ => am_sel [(am_v4 (fun t x1 x2 x3 σ => if t = 1 then B_LinkHouse_lay_0 X Q x1 x2 x3 σ else False)), (am_v5 (fun t x1 x2 x5 x7 σ => if t = 1 then B_LinkHouse_lay_1 X Q x1 x2 x5 x7 σ else False)), (am_v6 (fun t x1 x2 x7 x8 s0 σ => if t = 1 then B_LinkHouse_lay_2 X Q x1 x2 x7 x8 s0 σ else False)), (am_v5 (fun t x1 x2 x5 x7 σ => if t = 1 then B_LinkHouse_lay_3 X Q x1 x2 x5 x7 σ else False))] j v σ
def T_LinkHouse_lay : List Int → AMem → (Int → AMem → Prop) → Prop := am_T B_LinkHouse_lay
abbrev y_LinkHouse_lay : MethodName := ⟨"LinkHouse", "lay", "(LLinkHouse$Segment;IJ)J"⟩
def a_LinkHouse_lay : AC := (69, (y_LinkHouse_lay, prog_1_method_37_code, 9, (Option.some Jvm.ClassFile.FieldType.long)), [2, 2, 0, 1], 1, false, { frames := 1, cells := 0, slots := 0, locals := 31 }, T_LinkHouse_lay)
set_option maxRecDepth 100000 in
theorem ms_LinkHouse_lay : am_MSp a_LinkHouse_lay := am_ms_v 4011 1 4010 101013 0 rfl (by decide +kernel)
abbrev k_LinkHouse_lay : List AC := [a_LinkHouse_isPooled, a_LinkHouse_up]
set_option maxRecDepth 100000 in
theorem s_LinkHouse_lay : (am_chkR { frames := 1, cells := 0, slots := 0, locals := 31 } k_LinkHouse_lay && am_chkN c_LinkHouse_lay { frames := 1, cells := 0, slots := 0, locals := 31 } && c_LinkHouse_lay.all (am_chk "LinkHouse" prog_1_method_37_code 9 (Option.some Jvm.ClassFile.FieldType.long) k_LinkHouse_lay) && c_LinkHouse_lay.all (am_chkL m_LinkHouse_lay) && decide (m_LinkHouse_lay[0]? = some (0, am_argp 0 [2, 2, 0, 1], [])) && decide (am_argn [2, 2, 0, 1] ≤ 9)) = true := by decide +kernel
set_option maxHeartbeats 150000 in
set_option maxRecDepth 100000 in
theorem h_LinkHouse_lay : ∀ X Q j v σ, B_LinkHouse_lay X Q j v σ → am_at GR k_LinkHouse_lay c_LinkHouse_lay m_LinkHouse_lay X Q 84 j v σ := fun X Q => am_sel_all (P := fun j v σ => am_at GR k_LinkHouse_lay c_LinkHouse_lay m_LinkHouse_lay X Q 84 j v σ) (⟨(am_v4_of (fun t x1 x2 x3 σ h => am_tk (fun e => by subst e; exact fun h => h) h)), ⟨(am_v5_of (fun t x1 x2 x5 x7 σ h => am_tk (fun e => by subst e; exact fun h => h) h)), ⟨(am_v6_of (fun t x1 x2 x7 x8 s0 σ h => am_tk (fun e => by subst e; exact fun h => h) h)), ⟨(am_v5_of (fun t x1 x2 x5 x7 σ h => am_tk (fun e => by subst e; exact fun h => h) h)), trivial⟩⟩⟩⟩)
set_option maxRecDepth 100000 in
theorem S_LinkHouse_lay (l : Launch) (w : AW) : am_S l w GR a_LinkHouse_lay := am_sound (rt := 1) (cal := k_LinkHouse_lay) 69 y_LinkHouse_lay prog_1_method_37_code 9 (Option.some Jvm.ClassFile.FieldType.long) [2, 2, 0, 1] false { frames := 1, cells := 0, slots := 0, locals := 31 } B_LinkHouse_lay "LinkHouse" c_LinkHouse_lay m_LinkHouse_lay 84 ms_LinkHouse_lay (by decide +kernel) rfl rfl (am_cal (S_LinkHouse_isPooled l w) (am_cal (S_LinkHouse_up l w) (fun _ h => absurd h List.not_mem_nil))) s_LinkHouse_lay h_LinkHouse_lay
set_option maxRecDepth 100000 in
theorem of_LinkHouse_lay {Q : Int → AMem → Prop} {x1 x2 x3 : Int} {σ : AMem} (h : ∀ X : Nat → List Int → AMem → Prop, (∀ (x1 x2 x3 : Int) (σ : AMem), B_LinkHouse_lay_0 X Q x1 x2 x3 σ → X 0 [1, x1, x2, x3] σ) → (∀ (x1 x2 x5 x7 : Int) (σ : AMem), B_LinkHouse_lay_1 X Q x1 x2 x5 x7 σ → X 1 [1, x1, x2, x5, x7] σ) → (∀ (x1 x2 x7 x8 s0 : Int) (σ : AMem), B_LinkHouse_lay_2 X Q x1 x2 x7 x8 s0 σ → X 2 [1, x1, x2, x7, x8, s0] σ) → (∀ (x1 x2 x5 x7 : Int) (σ : AMem), B_LinkHouse_lay_3 X Q x1 x2 x5 x7 σ → X 3 [1, x1, x2, x5, x7] σ) → X 0 [1, x1, x2, x3] σ) : T_LinkHouse_lay [1, x1, x2, x3] σ Q := fun X hX => h X (fun x1 x2 x3 σ h => hX 0 [1, x1, x2, x3] σ h) (fun x1 x2 x5 x7 σ h => hX 1 [1, x1, x2, x5, x7] σ h) (fun x1 x2 x7 x8 s0 σ h => hX 2 [1, x1, x2, x7, x8, s0] σ h) (fun x1 x2 x5 x7 σ h => hX 3 [1, x1, x2, x5, x7] σ h)
def c_LinkHouse_layThreads : List aE := [(0, 1, .aload_n 0, 1, 0, 0, []), (1, 0, .aload_n 1, 1, 0, 0, []), (2, 0, .iconst 4, 1, 0, 0, []), (3, 0, .aload_n 1, 1, 0, 0, []), (4, 0, .getfield 487, 3, 4, 5, [1, 0, 229]), (7, 0, .invokevirtual 496, 3, 69, 0, [4008]), (10, 0, .lstore_n 2, 1, 0, 0, []), (11, 0, .aload_n 0, 1, 0, 0, []), (12, 0, .aload_n 1, 1, 0, 0, []), (13, 0, .iconst 5, 1, 0, 0, []), (14, 0, .lload_n 2, 1, 0, 0, []), (15, 0, .invokevirtual 496, 3, 69, 0, [4008]), (18, 0, .lstore 4, 2, 0, 0, []), (20, 0, .aload_n 0, 1, 0, 0, []), (21, 0, .aload_n 1, 1, 0, 0, []), (22, 0, .getfield 487, 3, 4, 5, [1, 0, 229]), (25, 0, .putfield 500, 3, 0, 43, [1, 0, 2016]), (28, 0, .aload_n 0, 1, 0, 0, []), (29, 0, .lconst 1, 1, 0, 0, []), (30, 0, .putfield 503, 3, 0, 44, [1, 0, 2017]), (33, 0, .aload_n 0, 1, 0, 0, []), (34, 0, .lload_n 2, 1, 0, 0, []), (35, 0, .aload_n 1, 1, 0, 0, []), (36, 0, .getfield 487, 3, 4, 5, [1, 0, 229]), (39, 0, .lsub, 1, 0, 0, []), (40, 0, .putfield 506, 3, 0, 45, [1, 0, 2018]), (43, 0, .iconst 0, 1, 0, 0, []), (44, 0, .istore 6, 2, 0, 0, []), (46, 0, .aload_n 0, 1, 0, 0, []), (47, 0, .iconst 0, 1, 0, 0, []), (48, 0, .putfield 509, 3, 0, 48, [0, 1, 2021]), (51, 0, .aload_n 0, 1, 0, 0, []), (52, 0, .getfield 461, 3, 0, 22, [0, 0, 1235]), (55, 0, .iconst 1, 1, 0, 0, []), (56, 0, .isub, 1, 0, 0, []), (57, 0, .istore 7, 2, 0, 0, []), (59, 2, .iload 7, 2, 0, 0, []), (61, 0, .ifCond .lt 97, 3, 0, 0, []), (64, 0, .aload_n 0, 1, 0, 0, []), (65, 0, .getfield 65, 3, 0, 14, [2, 0, 1227]), (68, 0, .iload 7, 2, 0, 0, []), (70, 0, .iaload, 1, 0, 0, []), (71, 0, .iconst 4, 1, 0, 0, []), (72, 0, .if_icmp .ge 6, 3, 0, 0, []), (75, 0, .goto 77, 3, 0, 0, []), (78, 0, .aload_n 0, 1, 0, 0, []), (79, 0, .aload_n 0, 1, 0, 0, []), (80, 0, .getfield 503, 3, 0, 44, [1, 0, 2017]), (83, 0, .aload_n 0, 1, 0, 0, []), (84, 0, .getfield 42, 3, 0, 7, [2, 0, 1220]), (87, 0, .aload_n 0, 1, 0, 0, []), (88, 0, .getfield 53, 3, 0, 10, [2, 0, 1223]), (91, 0, .iload 7, 2, 0, 0, []), (93, 0, .iaload, 1, 0, 0, []), (94, 0, .aaload, 1, 5, 0, []), (95, 0, .getfield 512, 3, 7, 14, [2, 0, 1096]), (98, 0, .aload_n 0, 1, 0, 0, []), (99, 0, .getfield 62, 3, 0, 13, [2, 0, 1226]), (102, 0, .iload 7, 2, 0, 0, []), (104, 0, .iaload, 1, 0, 0, []), (105, 0, .laload, 1, 0, 0, []), (106, 0, .invokestatic 515, 3, 9993, 0, [4012]), (109, 0, .putfield 503, 3, 0, 44, [1, 0, 2017]), (112, 0, .aload_n 0, 1, 0, 0, []), (113, 0, .aload_n 0, 1, 0, 0, []), (114, 0, .getfield 71, 3, 0, 16, [2, 0, 1229]), (117, 0, .iload 7, 2, 0, 0, []), (119, 0, .laload, 1, 0, 0, []), (120, 0, .putfield 500, 3, 0, 43, [1, 0, 2016]), (123, 0, .iconst 1, 1, 0, 0, []), (124, 0, .istore 6, 2, 0, 0, []), (126, 0, .aload_n 0, 1, 0, 0, []), (127, 0, .aload_n 0, 1, 0, 0, []), (128, 0, .getfield 509, 3, 0, 48, [0, 1, 2021]), (131, 0, .ifCond .ne 13, 3, 0, 0, []), (134, 0, .aload_n 0, 1, 0, 0, []), (135, 0, .getfield 68, 3, 0, 15, [2, 0, 1228]), (138, 0, .iload 7, 2, 0, 0, []), (140, 0, .iaload, 1, 0, 0, []), (141, 0, .ifCond .le 7, 3, 0, 0, []), (144, 3, .iconst 1, 1, 0, 0, []), (145, 0, .goto 4, 3, 0, 0, []), (148, 0, .iconst 0, 1, 0, 0, []), (149, 4, .putfield 509, 3, 0, 48, [0, 1, 2021]), (152, 5, .iinc 7 (-1), 3, 0, 0, []), (155, 0, .goto (-96), 3, 0, 0, []), (158, 0, .aload_n 0, 1, 0, 0, []), (159, 0, .lconst 0, 1, 0, 0, []), (160, 0, .lload_n 2, 1, 0, 0, []), (161, 0, .aload_n 0, 1, 0, 0, []), (162, 0, .getfield 500, 3, 0, 43, [1, 0, 2016]), (165, 0, .lsub, 1, 0, 0, []), (166, 0, .invokestatic 515, 3, 9993, 0, [4012]), (169, 0, .putfield 506, 3, 0, 45, [1, 0, 2018]), (172, 0, .aload_n 0, 1, 0, 0, []), (173, 0, .lload 4, 2, 0, 0, []), (175, 0, .aload_n 0, 1, 0, 0, []), (176, 0, .getfield 500, 3, 0, 43, [1, 0, 2016]), (179, 0, .lsub, 1, 0, 0, []), (180, 0, .putfield 521, 3, 0, 46, [1, 0, 2019]), (183, 0, .aload_n 0, 1, 0, 0, []), (184, 0, .iload 6, 2, 0, 0, []), (186, 0, .ifCond .eq 15, 3, 0, 0, []), (189, 0, .lload 4, 2, 0, 0, []), (191, 0, .aload_n 0, 1, 0, 0, []), (192, 0, .getfield 503, 3, 0, 44, [1, 0, 2017]), (195, 0, .invokestatic 524, 3, 68, 0, [4000]), (198, 0, .goto 7, 3, 0, 0, []), (201, 0, .aload_n 1, 1, 0, 0, []), (202, 0, .getfield 487, 3, 4, 5, [1, 0, 229]), (205, 0, .putfield 527, 3, 0, 47, [1, 0, 2020]), (208, 0, .lload_n 2, 1, 0, 0, []), (209, 0, .lreturn, 1, 0, 0, [])]
def m_LinkHouse_layThreads : List aT := [(0, [(0, 2), (1, 2)], []), (59, [(0, 2), (1, 2), (2, 1), (4, 1), (6, 0), (7, 0)], []), (144, [(0, 2), (1, 2), (2, 1), (4, 1), (6, 0), (7, 0)], [2]), (149, [(0, 2), (1, 2), (2, 1), (4, 1), (6, 0), (7, 0)], [0, 2]), (152, [(0, 2), (1, 2), (2, 1), (4, 1), (6, 0), (7, 0)], [])]
def B_LinkHouse_layThreads_0 (X : Nat → List Int → AMem → Prop) (Q : Int → AMem → Prop) (x1 : Int) (σ : AMem) : Prop :=
  (if ly_k x1 = 24 then T_LinkHouse_lay [1, x1, 4, (am_rd GR σ x1 5)] σ (fun r1 σ2 => T_LinkHouse_lay [1, x1, 5, r1] σ2 (fun r3 σ4 => (if ly_k x1 = 24 then am_let (am_upd σ4 1 43 (am_rd GR σ4 x1 5)) (fun σ5 => am_let (am_upd σ5 1 44 1) (fun σ6 => (if ly_k x1 = 24 then am_let (am_upd σ6 1 45 (w64 (r1 - (am_rd GR σ6 x1 5)))) (fun σ7 => am_let (am_upd σ7 1 48 0) (fun σ8 => am_r32 ((σ8 1 22) - 1) ∧ X 1 [1, x1, r1, r3, 0, ((σ8 1 22) - 1)] σ8)) else False))) else False))) else False)
def B_LinkHouse_layThreads_1 (X : Nat → List Int → AMem → Prop) (Q : Int → AMem → Prop) (x1 x2 x4 x6 x7 : Int) (σ : AMem) : Prop :=
  (if x7 < 0 then
  am_let (am_upd σ 1 45 (am_max 0 (w64 (x2 - (σ 1 43))))) (fun σ1 => am_let (am_upd σ1 1 46 (w64 (x4 - (σ1 1 43)))) (fun σ2 => (if x6 = 0 then
    (if ly_k x1 = 24 then am_let (am_upd σ2 1 47 (am_rd GR σ2 x1 5)) (fun σ3 => Q x2 σ3) else False)
    else
    T_LinkHouse_up [x4, (σ2 1 44)] σ2 (fun r4 σ5 => am_let (am_upd σ5 1 47 r4) (fun σ6 => Q x2 σ6)))))
  else
  0 ≤ x7 ∧ x7 < 1536 ∧ (if (σ 8286 x7) < 4 then
    X 4 [1, x1, x2, x4, x6, x7] σ
    else
    0 ≤ x7 ∧ x7 < 1536 ∧ 0 ≤ (σ 8282 x7) ∧ (σ 8282 x7) < 64 ∧ (if ly_k (σ 8279 (σ 8282 x7)) = 27 then 0 ≤ x7 ∧ x7 < 1536 ∧ (if ly_k (am_rd GR σ (σ 8279 (σ 8282 x7)) 14) = 4 then 0 ≤ (σ 8285 x7) ∧ (σ 8285 x7) < ly_l (am_rd GR σ (σ 8279 (σ 8282 x7)) 14) ∧ am_let (am_upd σ 1 44 (am_max (σ 1 44) (σ (am_rd GR σ (σ 8279 (σ 8282 x7)) 14) (σ 8285 x7)))) (fun σ7 => 0 ≤ x7 ∧ x7 < 1536 ∧ am_let (am_upd σ7 1 43 (σ7 8288 x7)) (fun σ8 => (if (σ8 1 48) = 0 then
      0 ≤ x7 ∧ x7 < 1536 ∧ (if 0 < (σ8 8287 x7) then
        X 2 [1, x1, x2, x4, 1, x7, 1] σ8
        else
        X 3 [1, x1, x2, x4, 1, x7, 0, 1] σ8)
      else
      X 2 [1, x1, x2, x4, 1, x7, 1] σ8))) else False) else False)))
def B_LinkHouse_layThreads_2 (X : Nat → List Int → AMem → Prop) (Q : Int → AMem → Prop) (x1 x2 x4 x6 x7 s0 : Int) (σ : AMem) : Prop :=
  X 3 [1, x1, x2, x4, x6, x7, 1, s0] σ
def B_LinkHouse_layThreads_3 (X : Nat → List Int → AMem → Prop) (Q : Int → AMem → Prop) (x1 x2 x4 x6 x7 s0 s1 : Int) (σ : AMem) : Prop :=
  (if ly_k s1 = 20 then (if ly_fin s1 48 = 0 then (if s0 = 0 ∨ s0 = 1 then am_let (am_upd σ s1 48 s0) (fun σ1 => X 4 [1, x1, x2, x4, x6, x7] σ1) else False) else False) else False)
def B_LinkHouse_layThreads_4 (X : Nat → List Int → AMem → Prop) (Q : Int → AMem → Prop) (x1 x2 x4 x6 x7 : Int) (σ : AMem) : Prop :=
  am_r32 (x7 + (-1)) ∧ X 1 [1, x1, x2, x4, x6, (x7 + (-1))] σ
def B_LinkHouse_layThreads : (Nat → List Int → AMem → Prop) → (Int → AMem → Prop) → Nat → List Int → AMem → Prop := fun X Q j v σ => am_sel [(am_v2 (fun t x1 σ => if t = 1 then B_LinkHouse_layThreads_0 X Q x1 σ else False)), (am_v6 (fun t x1 x2 x4 x6 x7 σ => if t = 1 then B_LinkHouse_layThreads_1 X Q x1 x2 x4 x6 x7 σ else False)), (am_v7 (fun t x1 x2 x4 x6 x7 s0 σ => if t = 1 then B_LinkHouse_layThreads_2 X Q x1 x2 x4 x6 x7 s0 σ else False)), (am_v8 (fun t x1 x2 x4 x6 x7 s0 s1 σ => if t = 1 then B_LinkHouse_layThreads_3 X Q x1 x2 x4 x6 x7 s0 s1 σ else False)), (am_v6 (fun t x1 x2 x4 x6 x7 σ => if t = 1 then B_LinkHouse_layThreads_4 X Q x1 x2 x4 x6 x7 σ else False))] j v σ
def T_LinkHouse_layThreads : List Int → AMem → (Int → AMem → Prop) → Prop := am_T B_LinkHouse_layThreads
abbrev y_LinkHouse_layThreads : MethodName := ⟨"LinkHouse", "layThreads", "(LLinkHouse$Segment;)J"⟩
def a_LinkHouse_layThreads : AC := (70, (y_LinkHouse_layThreads, prog_1_method_34_code, 8, (Option.some Jvm.ClassFile.FieldType.long)), [2, 2], 1, false, { frames := 2, cells := 0, slots := 0, locals := 67 }, T_LinkHouse_layThreads)
set_option maxRecDepth 100000 in
theorem ms_LinkHouse_layThreads : am_MSp a_LinkHouse_layThreads := am_ms_v 4007 1 4006 101012 0 rfl (by decide +kernel)
abbrev k_LinkHouse_layThreads : List AC := [a_LinkHouse_lay, a_LinkHouse_up]
set_option maxRecDepth 100000 in
theorem s_LinkHouse_layThreads : (am_chkR { frames := 2, cells := 0, slots := 0, locals := 67 } k_LinkHouse_layThreads && am_chkN c_LinkHouse_layThreads { frames := 2, cells := 0, slots := 0, locals := 67 } && c_LinkHouse_layThreads.all (am_chk "LinkHouse" prog_1_method_34_code 8 (Option.some Jvm.ClassFile.FieldType.long) k_LinkHouse_layThreads) && c_LinkHouse_layThreads.all (am_chkL m_LinkHouse_layThreads) && decide (m_LinkHouse_layThreads[0]? = some (0, am_argp 0 [2, 2], [])) && decide (am_argn [2, 2] ≤ 8)) = true := by decide +kernel
set_option maxHeartbeats 150000 in
set_option maxRecDepth 100000 in
theorem h_LinkHouse_layThreads : ∀ X Q j v σ, B_LinkHouse_layThreads X Q j v σ → am_at GR k_LinkHouse_layThreads c_LinkHouse_layThreads m_LinkHouse_layThreads X Q 118 j v σ := fun X Q => am_sel_all (P := fun j v σ => am_at GR k_LinkHouse_layThreads c_LinkHouse_layThreads m_LinkHouse_layThreads X Q 118 j v σ) (⟨(am_v2_of (fun t x1 σ h => am_tk (fun e => by subst e; exact fun h => h) h)), ⟨(am_v6_of (fun t x1 x2 x4 x6 x7 σ h => am_tk (fun e => by subst e; exact fun h => h) h)), ⟨(am_v7_of (fun t x1 x2 x4 x6 x7 s0 σ h => am_tk (fun e => by subst e; exact fun h => h) h)), ⟨(am_v8_of (fun t x1 x2 x4 x6 x7 s0 s1 σ h => am_tk (fun e => by subst e; exact fun h => h) h)), ⟨(am_v6_of (fun t x1 x2 x4 x6 x7 σ h => am_tk (fun e => by subst e; exact fun h => h) h)), trivial⟩⟩⟩⟩⟩)
set_option maxRecDepth 100000 in
theorem S_LinkHouse_layThreads (l : Launch) (w : AW) : am_S l w GR a_LinkHouse_layThreads := am_sound (rt := 1) (cal := k_LinkHouse_layThreads) 70 y_LinkHouse_layThreads prog_1_method_34_code 8 (Option.some Jvm.ClassFile.FieldType.long) [2, 2] false { frames := 2, cells := 0, slots := 0, locals := 67 } B_LinkHouse_layThreads "LinkHouse" c_LinkHouse_layThreads m_LinkHouse_layThreads 118 ms_LinkHouse_layThreads (by decide +kernel) rfl rfl (am_cal (S_LinkHouse_lay l w) (am_cal (S_LinkHouse_up l w) (fun _ h => absurd h List.not_mem_nil))) s_LinkHouse_layThreads h_LinkHouse_layThreads
set_option maxRecDepth 100000 in
theorem of_LinkHouse_layThreads {Q : Int → AMem → Prop} {x1 : Int} {σ : AMem} (h : ∀ X : Nat → List Int → AMem → Prop, (∀ (x1 : Int) (σ : AMem), B_LinkHouse_layThreads_0 X Q x1 σ → X 0 [1, x1] σ) → (∀ (x1 x2 x4 x6 x7 : Int) (σ : AMem), B_LinkHouse_layThreads_1 X Q x1 x2 x4 x6 x7 σ → X 1 [1, x1, x2, x4, x6, x7] σ) → (∀ (x1 x2 x4 x6 x7 s0 : Int) (σ : AMem), B_LinkHouse_layThreads_2 X Q x1 x2 x4 x6 x7 s0 σ → X 2 [1, x1, x2, x4, x6, x7, s0] σ) → (∀ (x1 x2 x4 x6 x7 s0 s1 : Int) (σ : AMem), B_LinkHouse_layThreads_3 X Q x1 x2 x4 x6 x7 s0 s1 σ → X 3 [1, x1, x2, x4, x6, x7, s0, s1] σ) → (∀ (x1 x2 x4 x6 x7 : Int) (σ : AMem), B_LinkHouse_layThreads_4 X Q x1 x2 x4 x6 x7 σ → X 4 [1, x1, x2, x4, x6, x7] σ) → X 0 [1, x1] σ) : T_LinkHouse_layThreads [1, x1] σ Q := fun X hX => h X (fun x1 σ h => hX 0 [1, x1] σ h) (fun x1 x2 x4 x6 x7 σ h => hX 1 [1, x1, x2, x4, x6, x7] σ h) (fun x1 x2 x4 x6 x7 s0 σ h => hX 2 [1, x1, x2, x4, x6, x7, s0] σ h) (fun x1 x2 x4 x6 x7 s0 s1 σ h => hX 3 [1, x1, x2, x4, x6, x7, s0, s1] σ h) (fun x1 x2 x4 x6 x7 σ h => hX 4 [1, x1, x2, x4, x6, x7] σ h)
def c_Pool_beginOf : List aE := [(0, 1, .lload_n 2, 1, 0, 0, []), (1, 0, .lstore 4, 2, 0, 0, []), (3, 2, .lload 4, 2, 0, 0, []), (5, 0, .lconst 0, 1, 0, 0, []), (6, 0, .lcmp, 1, 0, 0, []), (7, 0, .ifCond .le 24, 3, 0, 0, []), (10, 0, .aload_n 0, 1, 0, 0, []), (11, 0, .iload_n 1, 1, 0, 0, []), (12, 0, .lload 4, 2, 0, 0, []), (14, 0, .lconst 1, 1, 0, 0, []), (15, 0, .lsub, 1, 0, 0, []), (16, 0, .invokestatic 49, 3, 48, 0, [3168]), (19, 0, .ifCond .eq 12, 3, 0, 0, []), (22, 0, .lload 4, 2, 0, 0, []), (24, 0, .lconst 1, 1, 0, 0, []), (25, 0, .lsub, 1, 0, 0, []), (26, 0, .lstore 4, 2, 0, 0, []), (28, 0, .goto (-25), 3, 0, 0, []), (31, 0, .lload 4, 2, 0, 0, []), (33, 0, .lreturn, 1, 0, 0, [])]
def m_Pool_beginOf : List aT := [(0, [(0, 2), (1, 0), (2, 1)], []), (3, [(0, 2), (1, 0), (4, 1)], [])]
def B_Pool_beginOf_0 (X : Nat → List Int → AMem → Prop) (Q : Int → AMem → Prop) (x0 x1 x2 : Int) (σ : AMem) : Prop :=
  X 1 [x0, x1, x2] σ
def B_Pool_beginOf_1 (X : Nat → List Int → AMem → Prop) (Q : Int → AMem → Prop) (x0 x1 x4 : Int) (σ : AMem) : Prop :=
  (if 0 < x4 then
  T_Pool_letterOf [x0, x1, (w64 (x4 - 1))] σ (fun r1 σ2 => (if r1 = 0 then
    Q x4 σ2
    else
    X 1 [x0, x1, (w64 (x4 - 1))] σ2))
  else
  Q x4 σ)
def B_Pool_beginOf : (Nat → List Int → AMem → Prop) → (Int → AMem → Prop) → Nat → List Int → AMem → Prop := fun X Q j v σ => am_sel [(am_v3 (fun x0 x1 x2 σ => B_Pool_beginOf_0 X Q x0 x1 x2 σ)), (am_v3 (fun x0 x1 x4 σ => B_Pool_beginOf_1 X Q x0 x1 x4 σ))] j v σ
def T_Pool_beginOf : List Int → AMem → (Int → AMem → Prop) → Prop := am_T B_Pool_beginOf
abbrev y_Pool_beginOf : MethodName := ⟨"LinkHouse$Pool", "beginOf", "(LLinkHouse$Part;IJ)J"⟩
def a_Pool_beginOf : AC := (71, (y_Pool_beginOf, prog_7_method_7_code, 6, (Option.some Jvm.ClassFile.FieldType.long)), [2, 0, 1], 1, true, { frames := 2, cells := 0, slots := 0, locals := 65 }, T_Pool_beginOf)
set_option maxRecDepth 100000 in
theorem ms_Pool_beginOf : am_MSp a_Pool_beginOf := am_ms_s 4023 6 4022 rfl (by decide +kernel)
abbrev k_Pool_beginOf : List AC := [a_Pool_letterOf]
set_option maxRecDepth 100000 in
theorem s_Pool_beginOf : (am_chkR { frames := 2, cells := 0, slots := 0, locals := 65 } k_Pool_beginOf && am_chkN c_Pool_beginOf { frames := 2, cells := 0, slots := 0, locals := 65 } && c_Pool_beginOf.all (am_chk "LinkHouse$Pool" prog_7_method_7_code 6 (Option.some Jvm.ClassFile.FieldType.long) k_Pool_beginOf) && c_Pool_beginOf.all (am_chkL m_Pool_beginOf) && decide (m_Pool_beginOf[0]? = some (0, am_argp 0 [2, 0, 1], [])) && decide (am_argn [2, 0, 1] ≤ 6)) = true := by decide +kernel
set_option maxHeartbeats 150000 in
set_option maxRecDepth 100000 in
theorem h_Pool_beginOf : ∀ X Q j v σ, B_Pool_beginOf X Q j v σ → am_at GR k_Pool_beginOf c_Pool_beginOf m_Pool_beginOf X Q 25 j v σ := fun X Q => am_sel_all (P := fun j v σ => am_at GR k_Pool_beginOf c_Pool_beginOf m_Pool_beginOf X Q 25 j v σ) (⟨(am_v3_of (fun x0 x1 x2 σ h => h)), ⟨(am_v3_of (fun x0 x1 x4 σ h => h)), trivial⟩⟩)
set_option maxRecDepth 100000 in
theorem S_Pool_beginOf (l : Launch) (w : AW) : am_S l w GR a_Pool_beginOf := am_sound (rt := 1) (cal := k_Pool_beginOf) 71 y_Pool_beginOf prog_7_method_7_code 6 (Option.some Jvm.ClassFile.FieldType.long) [2, 0, 1] true { frames := 2, cells := 0, slots := 0, locals := 65 } B_Pool_beginOf "LinkHouse$Pool" c_Pool_beginOf m_Pool_beginOf 25 ms_Pool_beginOf (by decide +kernel) rfl rfl (am_cal (S_Pool_letterOf l w) (fun _ h => absurd h List.not_mem_nil)) s_Pool_beginOf h_Pool_beginOf
set_option maxRecDepth 100000 in
theorem of_Pool_beginOf {Q : Int → AMem → Prop} {x0 x1 x2 : Int} {σ : AMem} (h : ∀ X : Nat → List Int → AMem → Prop, (∀ (x0 x1 x2 : Int) (σ : AMem), B_Pool_beginOf_0 X Q x0 x1 x2 σ → X 0 [x0, x1, x2] σ) → (∀ (x0 x1 x4 : Int) (σ : AMem), B_Pool_beginOf_1 X Q x0 x1 x4 σ → X 1 [x0, x1, x4] σ) → X 0 [x0, x1, x2] σ) : T_Pool_beginOf [x0, x1, x2] σ Q := fun X hX => h X (fun x0 x1 x2 σ h => hX 0 [x0, x1, x2] σ h) (fun x0 x1 x4 σ h => hX 1 [x0, x1, x4] σ h)
def c_Pool_addressOf : List aE := [(0, 1, .lload_n 3, 1, 0, 0, []), (1, 0, .lconst 0, 1, 0, 0, []), (2, 0, .lcmp, 1, 0, 0, []), (3, 0, .ifCond .lt 14, 3, 0, 0, []), (6, 0, .lload_n 3, 1, 0, 0, []), (7, 0, .aload_n 1, 1, 0, 0, []), (8, 0, .getfield 53, 3, 7, 13, [2, 0, 1093]), (11, 0, .iload_n 2, 1, 0, 0, []), (12, 0, .laload, 1, 0, 0, []), (13, 0, .lcmp, 1, 0, 0, []), (14, 0, .ifCond .lt 14, 3, 0, 0, []), (17, 2, .aload_n 0, 1, 0, 0, []), (18, 0, .getfield 72, 3, 5, 7, [1, 0, 1028]), (21, 0, .aload_n 0, 1, 0, 0, []), (22, 0, .getfield 33, 3, 5, 6, [0, 0, 1026]), (25, 0, .i2l, 1, 0, 0, []), (26, 0, .ladd, 1, 0, 0, []), (27, 0, .lreturn, 1, 0, 0, []), (28, 0, .aload_n 1, 1, 0, 0, []), (29, 0, .iload_n 2, 1, 0, 0, []), (30, 0, .lload_n 3, 1, 0, 0, []), (31, 0, .invokestatic 76, 3, 71, 0, [4021]), (34, 0, .lstore 5, 2, 0, 0, []), (36, 0, .aload_n 1, 1, 0, 0, []), (37, 0, .iload_n 2, 1, 0, 0, []), (38, 0, .lload_n 3, 1, 0, 0, []), (39, 0, .invokestatic 57, 3, 49, 0, [3165]), (42, 0, .lstore 7, 2, 0, 0, []), (44, 0, .aload_n 0, 1, 0, 0, []), (45, 0, .getfield 72, 3, 5, 7, [1, 0, 1028]), (48, 0, .aload_n 0, 1, 0, 0, []), (49, 0, .getfield 19, 3, 5, 2, [2, 0, 1021]), (52, 0, .aload_n 0, 1, 0, 0, []), (53, 0, .aload_n 1, 1, 0, 0, []), (54, 0, .iload_n 2, 1, 0, 0, []), (55, 0, .lload 5, 2, 0, 0, []), (57, 0, .lload 7, 2, 0, 0, []), (59, 0, .invokevirtual 68, 3, 53, 5, [3184]), (62, 0, .iaload, 1, 0, 0, []), (63, 0, .i2l, 1, 0, 0, []), (64, 0, .ladd, 1, 0, 0, []), (65, 0, .lload 7, 2, 0, 0, []), (67, 0, .lload 5, 2, 0, 0, []), (69, 0, .lsub, 1, 0, 0, []), (70, 0, .lconst 1, 1, 0, 0, []), (71, 0, .ladd, 1, 0, 0, []), (72, 0, .lsub, 1, 0, 0, []), (73, 0, .lload_n 3, 1, 0, 0, []), (74, 0, .ladd, 1, 0, 0, []), (75, 0, .lload 5, 2, 0, 0, []), (77, 0, .lsub, 1, 0, 0, []), (78, 0, .lreturn, 1, 0, 0, [])]
def m_Pool_addressOf : List aT := [(0, [(0, 2), (1, 2), (2, 0), (3, 1)], []), (17, [(0, 2)], [])]
def B_Pool_addressOf_0 (X : Nat → List Int → AMem → Prop) (Q : Int → AMem → Prop) (x1 x2 x3 : Int) (σ : AMem) : Prop :=
  (if x3 < 0 then
  X 1 [8340] σ
  else
  (if ly_k x1 = 27 then (if ly_k (am_rd GR σ x1 13) = 4 then 0 ≤ x2 ∧ x2 < ly_l (am_rd GR σ x1 13) ∧ (if x3 < (σ (am_rd GR σ x1 13) x2) then
    T_Pool_beginOf [x1, x2, x3] σ (fun r1 σ2 => T_Pool_endOf [x1, x2, x3] σ2 (fun r3 σ4 => T_Pool_nodeOf [8340, x1, x2, r1, r3] σ4 (fun r5 σ6 => 0 ≤ r5 ∧ r5 < 65544 ∧ Q (w64 ((w64 ((w64 ((w64 ((σ4 8340 7) + (σ6 8343 r5))) - (w64 ((w64 (r3 - r1)) + 1)))) + x3)) - r1)) σ6)))
    else
    X 1 [8340] σ) else False) else False))
def B_Pool_addressOf_1 (X : Nat → List Int → AMem → Prop) (Q : Int → AMem → Prop) (σ : AMem) : Prop :=
  Q (w64 ((σ 8340 7) + (σ 8340 6))) σ
def B_Pool_addressOf : (Nat → List Int → AMem → Prop) → (Int → AMem → Prop) → Nat → List Int → AMem → Prop := fun X Q j v σ => am_sel [(am_v4 (fun t x1 x2 x3 σ => if t = 8340 then B_Pool_addressOf_0 X Q x1 x2 x3 σ else False)), (am_v1 (fun t σ => if t = 8340 then B_Pool_addressOf_1 X Q σ else False))] j v σ
def T_Pool_addressOf : List Int → AMem → (Int → AMem → Prop) → Prop := am_T B_Pool_addressOf
abbrev y_Pool_addressOf : MethodName := ⟨"LinkHouse$Pool", "addressOf", "(LLinkHouse$Part;IJ)J"⟩
def a_Pool_addressOf : AC := (72, (y_Pool_addressOf, prog_7_method_12_code, 9, (Option.some Jvm.ClassFile.FieldType.long)), [2, 2, 0, 1], 1, false, { frames := 3, cells := 0, slots := 0, locals := 102 }, T_Pool_addressOf)
set_option maxRecDepth 100000 in
theorem ms_Pool_addressOf : am_MSp a_Pool_addressOf := am_ms_v 4020 6 4018 4019 5 rfl (by decide +kernel)
abbrev k_Pool_addressOf : List AC := [a_Pool_beginOf, a_Pool_endOf, a_Pool_nodeOf]
set_option maxRecDepth 100000 in
theorem s_Pool_addressOf : (am_chkR { frames := 3, cells := 0, slots := 0, locals := 102 } k_Pool_addressOf && am_chkN c_Pool_addressOf { frames := 3, cells := 0, slots := 0, locals := 102 } && c_Pool_addressOf.all (am_chk "LinkHouse$Pool" prog_7_method_12_code 9 (Option.some Jvm.ClassFile.FieldType.long) k_Pool_addressOf) && c_Pool_addressOf.all (am_chkL m_Pool_addressOf) && decide (m_Pool_addressOf[0]? = some (0, am_argp 0 [2, 2, 0, 1], [])) && decide (am_argn [2, 2, 0, 1] ≤ 9)) = true := by decide +kernel
set_option maxHeartbeats 150000 in
set_option maxRecDepth 100000 in
theorem h_Pool_addressOf : ∀ X Q j v σ, B_Pool_addressOf X Q j v σ → am_at GR k_Pool_addressOf c_Pool_addressOf m_Pool_addressOf X Q 57 j v σ := fun X Q => am_sel_all (P := fun j v σ => am_at GR k_Pool_addressOf c_Pool_addressOf m_Pool_addressOf X Q 57 j v σ) (⟨(am_v4_of (fun t x1 x2 x3 σ h => am_tk (fun e => by subst e; exact fun h => h) h)), ⟨(am_v1_of (fun t σ h => am_tk (fun e => by subst e; exact fun h => h) h)), trivial⟩⟩)
set_option maxRecDepth 100000 in
theorem S_Pool_addressOf (l : Launch) (w : AW) : am_S l w GR a_Pool_addressOf := am_sound (rt := 1) (cal := k_Pool_addressOf) 72 y_Pool_addressOf prog_7_method_12_code 9 (Option.some Jvm.ClassFile.FieldType.long) [2, 2, 0, 1] false { frames := 3, cells := 0, slots := 0, locals := 102 } B_Pool_addressOf "LinkHouse$Pool" c_Pool_addressOf m_Pool_addressOf 57 ms_Pool_addressOf (by decide +kernel) rfl rfl (am_cal (S_Pool_beginOf l w) (am_cal (S_Pool_endOf l w) (am_cal (S_Pool_nodeOf l w) (fun _ h => absurd h List.not_mem_nil)))) s_Pool_addressOf h_Pool_addressOf
set_option maxRecDepth 100000 in
theorem of_Pool_addressOf {Q : Int → AMem → Prop} {x1 x2 x3 : Int} {σ : AMem} (h : ∀ X : Nat → List Int → AMem → Prop, (∀ (x1 x2 x3 : Int) (σ : AMem), B_Pool_addressOf_0 X Q x1 x2 x3 σ → X 0 [8340, x1, x2, x3] σ) → (∀ (σ : AMem), B_Pool_addressOf_1 X Q σ → X 1 [8340] σ) → X 0 [8340, x1, x2, x3] σ) : T_Pool_addressOf [8340, x1, x2, x3] σ Q := fun X hX => h X (fun x1 x2 x3 σ h => hX 0 [8340, x1, x2, x3] σ h) (fun σ h => hX 1 [8340] σ h)
def c_LinkHouse_layPool : List aE := [(0, 1, .aload_n 0, 1, 0, 0, []), (1, 0, .getfield 125, 3, 0, 49, [2, 0, 2022]), (4, 0, .lload_n 2, 1, 0, 0, []), (5, 0, .putfield 482, 3, 5, 7, [1, 0, 1029]), (8, 0, .aload_n 0, 1, 0, 0, []), (9, 0, .getfield 125, 3, 0, 49, [2, 0, 2022]), (12, 0, .getfield 486, 3, 5, 6, [0, 0, 1027]), (15, 0, .ifCond .le 22, 3, 0, 0, []), (18, 0, .aload_n 1, 1, 0, 0, []), (19, 0, .lload_n 2, 1, 0, 0, []), (20, 0, .aload_n 0, 1, 0, 0, []), (21, 0, .getfield 125, 3, 0, 49, [2, 0, 2022]), (24, 0, .getfield 486, 3, 5, 6, [0, 0, 1027]), (27, 0, .i2l, 1, 0, 0, []), (28, 0, .ladd, 1, 0, 0, []), (29, 0, .aload_n 1, 1, 0, 0, []), (30, 0, .getfield 487, 3, 4, 5, [1, 0, 229]), (33, 0, .lsub, 1, 0, 0, []), (34, 0, .putfield 488, 3, 4, 6, [1, 0, 230]), (37, 2, .iconst 0, 1, 0, 0, []), (38, 0, .istore 4, 2, 0, 0, []), (40, 3, .iload 4, 2, 0, 0, []), (42, 0, .aload_n 0, 1, 0, 0, []), (43, 0, .getfield 461, 3, 0, 22, [0, 0, 1235]), (46, 0, .if_icmp .ge 79, 3, 0, 0, []), (49, 0, .aload_n 0, 1, 0, 0, []), (50, 0, .iload 4, 2, 0, 0, []), (52, 0, .invokevirtual 474, 3, 47, 0, [3157]), (55, 0, .ifCond .ne 6, 3, 0, 0, []), (58, 0, .goto 61, 3, 0, 0, []), (61, 0, .aload_n 0, 1, 0, 0, []), (62, 0, .getfield 42, 3, 0, 7, [2, 0, 1220]), (65, 0, .aload_n 0, 1, 0, 0, []), (66, 0, .getfield 53, 3, 0, 10, [2, 0, 1223]), (69, 0, .iload 4, 2, 0, 0, []), (71, 0, .iaload, 1, 0, 0, []), (72, 0, .aaload, 1, 5, 0, []), (73, 0, .astore 5, 2, 0, 0, []), (75, 0, .aload_n 0, 1, 0, 0, []), (76, 0, .getfield 71, 3, 0, 16, [2, 0, 1229]), (79, 0, .iload 4, 2, 0, 0, []), (81, 0, .aload_n 0, 1, 0, 0, []), (82, 0, .getfield 125, 3, 0, 49, [2, 0, 2022]), (85, 0, .aload 5, 2, 0, 0, []), (87, 0, .aload_n 0, 1, 0, 0, []), (88, 0, .getfield 62, 3, 0, 13, [2, 0, 1226]), (91, 0, .iload 4, 2, 0, 0, []), (93, 0, .iaload, 1, 0, 0, []), (94, 0, .lconst 0, 1, 0, 0, []), (95, 0, .invokevirtual 491, 3, 72, 5, [4017]), (98, 0, .lastore, 1, 0, 0, []), (99, 0, .aload 5, 2, 0, 0, []), (101, 0, .getfield 494, 3, 7, 15, [2, 0, 1098]), (104, 0, .aload_n 0, 1, 0, 0, []), (105, 0, .getfield 62, 3, 0, 13, [2, 0, 1226]), (108, 0, .iload 4, 2, 0, 0, []), (110, 0, .iaload, 1, 0, 0, []), (111, 0, .aload_n 0, 1, 0, 0, []), (112, 0, .getfield 71, 3, 0, 16, [2, 0, 1229]), (115, 0, .iload 4, 2, 0, 0, []), (117, 0, .laload, 1, 0, 0, []), (118, 0, .lastore, 1, 0, 0, []), (119, 4, .iinc 4 1, 3, 0, 0, []), (122, 0, .goto (-82), 3, 0, 0, []), (125, 0, .lload_n 2, 1, 0, 0, []), (126, 0, .aload_n 0, 1, 0, 0, []), (127, 0, .getfield 125, 3, 0, 49, [2, 0, 2022]), (130, 0, .getfield 486, 3, 5, 6, [0, 0, 1027]), (133, 0, .i2l, 1, 0, 0, []), (134, 0, .ladd, 1, 0, 0, []), (135, 0, .lreturn, 1, 0, 0, [])]
def m_LinkHouse_layPool : List aT := [(0, [(0, 2), (1, 2), (2, 1)], []), (37, [(0, 2), (2, 1)], []), (40, [(0, 2), (2, 1), (4, 0)], []), (119, [(0, 2), (2, 1), (4, 0)], [])]
def B_LinkHouse_layPool_0 (X : Nat → List Int → AMem → Prop) (Q : Int → AMem → Prop) (x1 x2 : Int) (σ : AMem) : Prop :=
  am_let (am_upd σ 8340 7 x2) (fun σ1 => (if 0 < (σ1 8340 6) then
  (if ly_k x1 = 24 then (if ly_k x1 = 24 then (if ly_fin x1 6 = 0 then am_let (am_upd σ1 x1 6 (w64 ((w64 (x2 + (σ1 8340 6))) - (am_rd GR σ1 x1 5)))) (fun σ2 => X 1 [1, x2] σ2) else False) else False) else False)
  else
  X 1 [1, x2] σ1))
def B_LinkHouse_layPool_1 (X : Nat → List Int → AMem → Prop) (Q : Int → AMem → Prop) (x2 : Int) (σ : AMem) : Prop :=
  X 2 [1, x2, 0] σ
def B_LinkHouse_layPool_2 (X : Nat → List Int → AMem → Prop) (Q : Int → AMem → Prop) (x2 x4 : Int) (σ : AMem) : Prop :=
  (if x4 < (σ 1 22) then
  T_LinkHouse_isPooled [1, x4] σ (fun r1 σ2 => (if r1 = 0 then
    X 3 [1, x2, x4] σ2
    else
    0 ≤ x4 ∧ x4 < 1536 ∧ 0 ≤ (σ2 8282 x4) ∧ (σ2 8282 x4) < 64 ∧ 0 ≤ x4 ∧ x4 < 1536 ∧ T_Pool_addressOf [8340, (σ2 8279 (σ2 8282 x4)), (σ2 8285 x4), 0] σ2 (fun r3 σ4 => 0 ≤ x4 ∧ x4 < 1536 ∧ am_let (am_upd σ4 8288 x4 r3) (fun σ5 => (if ly_k (σ2 8279 (σ2 8282 x4)) = 27 then 0 ≤ x4 ∧ x4 < 1536 ∧ 0 ≤ x4 ∧ x4 < 1536 ∧ (if ly_k (am_rd GR σ5 (σ2 8279 (σ2 8282 x4)) 15) = 4 then 0 ≤ (σ5 8285 x4) ∧ (σ5 8285 x4) < ly_l (am_rd GR σ5 (σ2 8279 (σ2 8282 x4)) 15) ∧ am_let (am_upd σ5 (am_rd GR σ5 (σ2 8279 (σ2 8282 x4)) 15) (σ5 8285 x4) (σ5 8288 x4)) (fun σ6 => X 3 [1, x2, x4] σ6) else False) else False)))))
  else
  Q (w64 (x2 + (σ 8340 6))) σ)
def B_LinkHouse_layPool_3 (X : Nat → List Int → AMem → Prop) (Q : Int → AMem → Prop) (x2 x4 : Int) (σ : AMem) : Prop :=
  am_r32 (x4 + 1) ∧ X 2 [1, x2, (x4 + 1)] σ
def B_LinkHouse_layPool : (Nat → List Int → AMem → Prop) → (Int → AMem → Prop) → Nat → List Int → AMem → Prop := fun X Q j v σ => am_sel [(am_v3 (fun t x1 x2 σ => if t = 1 then B_LinkHouse_layPool_0 X Q x1 x2 σ else False)), (am_v2 (fun t x2 σ => if t = 1 then B_LinkHouse_layPool_1 X Q x2 σ else False)), (am_v3 (fun t x2 x4 σ => if t = 1 then B_LinkHouse_layPool_2 X Q x2 x4 σ else False)), (am_v3 (fun t x2 x4 σ => if t = 1 then B_LinkHouse_layPool_3 X Q x2 x4 σ else False))] j v σ
def T_LinkHouse_layPool : List Int → AMem → (Int → AMem → Prop) → Prop := am_T B_LinkHouse_layPool
abbrev y_LinkHouse_layPool : MethodName := ⟨"LinkHouse", "layPool", "(LLinkHouse$Segment;J)J"⟩
def a_LinkHouse_layPool : AC := (73, (y_LinkHouse_layPool, prog_1_method_33_code, 6, (Option.some Jvm.ClassFile.FieldType.long)), [2, 2, 1], 1, false, { frames := 4, cells := 0, slots := 0, locals := 138 }, T_LinkHouse_layPool)
set_option maxRecDepth 100000 in
theorem ms_LinkHouse_layPool : am_MSp a_LinkHouse_layPool := am_ms_v 4016 1 4015 101014 0 rfl (by decide +kernel)
abbrev k_LinkHouse_layPool : List AC := [a_LinkHouse_isPooled, a_Pool_addressOf]
set_option maxRecDepth 100000 in
theorem s_LinkHouse_layPool : (am_chkR { frames := 4, cells := 0, slots := 0, locals := 138 } k_LinkHouse_layPool && am_chkN c_LinkHouse_layPool { frames := 4, cells := 0, slots := 0, locals := 138 } && c_LinkHouse_layPool.all (am_chk "LinkHouse" prog_1_method_33_code 6 (Option.some Jvm.ClassFile.FieldType.long) k_LinkHouse_layPool) && c_LinkHouse_layPool.all (am_chkL m_LinkHouse_layPool) && decide (m_LinkHouse_layPool[0]? = some (0, am_argp 0 [2, 2, 1], [])) && decide (am_argn [2, 2, 1] ≤ 6)) = true := by decide +kernel
set_option maxHeartbeats 150000 in
set_option maxRecDepth 100000 in
theorem h_LinkHouse_layPool : ∀ X Q j v σ, B_LinkHouse_layPool X Q j v σ → am_at GR k_LinkHouse_layPool c_LinkHouse_layPool m_LinkHouse_layPool X Q 76 j v σ := fun X Q => am_sel_all (P := fun j v σ => am_at GR k_LinkHouse_layPool c_LinkHouse_layPool m_LinkHouse_layPool X Q 76 j v σ) (⟨(am_v3_of (fun t x1 x2 σ h => am_tk (fun e => by subst e; exact fun h => h) h)), ⟨(am_v2_of (fun t x2 σ h => am_tk (fun e => by subst e; exact fun h => h) h)), ⟨(am_v3_of (fun t x2 x4 σ h => am_tk (fun e => by subst e; exact fun h => h) h)), ⟨(am_v3_of (fun t x2 x4 σ h => am_tk (fun e => by subst e; exact fun h => h) h)), trivial⟩⟩⟩⟩)
set_option maxRecDepth 100000 in
theorem S_LinkHouse_layPool (l : Launch) (w : AW) : am_S l w GR a_LinkHouse_layPool := am_sound (rt := 1) (cal := k_LinkHouse_layPool) 73 y_LinkHouse_layPool prog_1_method_33_code 6 (Option.some Jvm.ClassFile.FieldType.long) [2, 2, 1] false { frames := 4, cells := 0, slots := 0, locals := 138 } B_LinkHouse_layPool "LinkHouse" c_LinkHouse_layPool m_LinkHouse_layPool 76 ms_LinkHouse_layPool (by decide +kernel) rfl rfl (am_cal (S_LinkHouse_isPooled l w) (am_cal (S_Pool_addressOf l w) (fun _ h => absurd h List.not_mem_nil))) s_LinkHouse_layPool h_LinkHouse_layPool
set_option maxRecDepth 100000 in
theorem of_LinkHouse_layPool {Q : Int → AMem → Prop} {x1 x2 : Int} {σ : AMem} (h : ∀ X : Nat → List Int → AMem → Prop, (∀ (x1 x2 : Int) (σ : AMem), B_LinkHouse_layPool_0 X Q x1 x2 σ → X 0 [1, x1, x2] σ) → (∀ (x2 : Int) (σ : AMem), B_LinkHouse_layPool_1 X Q x2 σ → X 1 [1, x2] σ) → (∀ (x2 x4 : Int) (σ : AMem), B_LinkHouse_layPool_2 X Q x2 x4 σ → X 2 [1, x2, x4] σ) → (∀ (x2 x4 : Int) (σ : AMem), B_LinkHouse_layPool_3 X Q x2 x4 σ → X 3 [1, x2, x4] σ) → X 0 [1, x1, x2] σ) : T_LinkHouse_layPool [1, x1, x2] σ Q := fun X hX => h X (fun x1 x2 σ h => hX 0 [1, x1, x2] σ h) (fun x2 σ h => hX 1 [1, x2] σ h) (fun x2 x4 σ h => hX 2 [1, x2, x4] σ h) (fun x2 x4 σ h => hX 3 [1, x2, x4] σ h)
