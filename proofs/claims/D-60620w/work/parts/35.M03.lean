/-! methods: printed by gen/all.py -/
def c_Model_wish : List aE := [(0, 1, .aload_n 0, 1, 0, 0, []), (1, 0, .invokevirtual 495, 3, 224, 8, [9060]), (4, 0, .ifCond .ne 7, 3, 0, 0, []), (7, 0, .iconst 1, 1, 0, 0, []), (8, 0, .goto 4, 3, 0, 0, []), (11, 0, .iconst 0, 1, 0, 0, []), (12, 2, .istore_n 1, 1, 0, 0, []), (13, 0, .iload_n 1, 1, 0, 0, []), (14, 0, .ifCond .ne 35, 3, 0, 0, []), (17, 0, .aload_n 0, 1, 0, 0, []), (18, 0, .getfield 492, 3, 8, 32, [0, 0, 6221]), (21, 0, .bipush 16, 2, 0, 0, []), (23, 0, .if_icmp .eq 22, 3, 0, 0, []), (26, 0, .aload_n 0, 1, 0, 0, []), (27, 0, .aload_n 0, 1, 0, 0, []), (28, 0, .getfield 88, 3, 8, 34, [2, 0, 6223]), (31, 0, .aload_n 0, 1, 0, 0, []), (32, 0, .getfield 94, 3, 8, 36, [2, 0, 6225]), (35, 0, .aload_n 0, 1, 0, 0, []), (36, 0, .getfield 492, 3, 8, 32, [0, 0, 6221]), (39, 0, .invokevirtual 499, 3, 225, 8, [9064]), (42, 0, .ifCond .lt 7, 3, 0, 0, []), (45, 3, .iconst 1, 1, 0, 0, []), (46, 0, .goto 4, 3, 0, 0, []), (49, 4, .iconst 0, 1, 0, 0, []), (50, 5, .istore_n 2, 1, 0, 0, []), (51, 0, .aload_n 0, 1, 0, 0, []), (52, 0, .getfield 284, 3, 8, 2, [0, 0, 6191]), (55, 0, .istore_n 3, 1, 0, 0, []), (56, 0, .aload_n 0, 1, 0, 0, []), (57, 0, .iconst 0, 1, 0, 0, []), (58, 0, .putfield 284, 3, 8, 2, [0, 0, 6191]), (61, 0, .aload_n 0, 1, 0, 0, []), (62, 0, .iload_n 1, 1, 0, 0, []), (63, 0, .iload_n 2, 1, 0, 0, []), (64, 0, .invokevirtual 287, 3, 181, 8, [8108]), (67, 0, .ifCond .eq 5, 3, 0, 0, []), (70, 0, .iconst 0, 1, 0, 0, []), (71, 0, .ireturn, 1, 0, 0, []), (72, 0, .iconst 0, 1, 0, 0, []), (73, 0, .istore 4, 2, 0, 0, []), (75, 6, .iload 4, 2, 0, 0, []), (77, 0, .iload_n 3, 1, 0, 0, []), (78, 0, .if_icmp .ge 31, 3, 0, 0, []), (81, 0, .aload_n 0, 1, 0, 0, []), (82, 0, .getfield 88, 3, 8, 34, [2, 0, 6223]), (85, 0, .bipush 20, 2, 0, 0, []), (87, 0, .aload_n 0, 1, 0, 0, []), (88, 0, .getfield 492, 3, 8, 32, [0, 0, 6221]), (91, 0, .imul, 1, 0, 0, []), (92, 0, .iload 4, 2, 0, 0, []), (94, 0, .iadd, 1, 0, 0, []), (95, 0, .aload_n 0, 1, 0, 0, []), (96, 0, .getfield 7, 3, 8, 1, [2, 0, 6190]), (99, 0, .iload 4, 2, 0, 0, []), (101, 0, .baload, 1, 2, 0, []), (102, 0, .bastore, 1, 2, 0, []), (103, 0, .iinc 4 1, 3, 0, 0, []), (106, 0, .goto (-31), 3, 0, 0, []), (109, 0, .aload_n 0, 1, 0, 0, []), (110, 0, .getfield 94, 3, 8, 36, [2, 0, 6225]), (113, 0, .aload_n 0, 1, 0, 0, []), (114, 0, .getfield 492, 3, 8, 32, [0, 0, 6221]), (117, 0, .iload_n 3, 1, 0, 0, []), (118, 0, .iastore, 1, 0, 0, []), (119, 0, .aload_n 0, 1, 0, 0, []), (120, 0, .dup, 1, 0, 0, []), (121, 0, .getfield 492, 3, 8, 32, [0, 0, 6221]), (124, 0, .iconst 1, 1, 0, 0, []), (125, 0, .iadd, 1, 0, 0, []), (126, 0, .putfield 492, 3, 8, 32, [0, 0, 6221]), (129, 0, .aload_n 0, 1, 0, 0, []), (130, 0, .getfield 492, 3, 8, 32, [0, 0, 6221]), (133, 0, .ireturn, 1, 0, 0, [])]
def m_Model_wish : List aT := [(0, [(0, 2)], []), (12, [(0, 2)], [0]), (45, [(0, 2), (1, 0)], []), (49, [(0, 2), (1, 0)], []), (50, [(0, 2), (1, 0)], [0]), (75, [(0, 2), (3, 0), (4, 0)], [])]
def B_Model_wish_0 (X : Nat → List Int → AMem → Prop) (Q : Int → AMem → Prop) (σ : AMem) : Prop :=
  T_Model_isTapeName [9790] σ (fun r1 σ2 => (if r1 = 0 then
  X 1 [9790, 1] σ2
  else
  X 1 [9790, 0] σ2))
def B_Model_wish_1 (X : Nat → List Int → AMem → Prop) (Q : Int → AMem → Prop) (s0 : Int) (σ : AMem) : Prop :=
  (if s0 = 0 then
  (if (σ 9790 32) = 16 then
    X 2 [9790, s0] σ
    else
    T_Model_toldAt [9790, 9814, 9816, (σ 9790 32)] σ (fun r1 σ2 => (if r1 < 0 then
      X 3 [9790, s0] σ2
      else
      X 2 [9790, s0] σ2)))
  else
  X 3 [9790, s0] σ)
def B_Model_wish_2 (X : Nat → List Int → AMem → Prop) (Q : Int → AMem → Prop) (x1 : Int) (σ : AMem) : Prop :=
  X 4 [9790, x1, 1] σ
def B_Model_wish_3 (X : Nat → List Int → AMem → Prop) (Q : Int → AMem → Prop) (x1 : Int) (σ : AMem) : Prop :=
  X 4 [9790, x1, 0] σ
def B_Model_wish_4 (X : Nat → List Int → AMem → Prop) (Q : Int → AMem → Prop) (x1 s0 : Int) (σ : AMem) : Prop :=
  am_let (am_upd σ 9790 2 0) (fun σ1 => T_Model_throwing [9790, x1, s0] σ1 (fun r2 σ3 => (if r2 = 0 then
  X 5 [9790, (σ 9790 2), 0] σ3
  else
  Q 0 σ3)))
def B_Model_wish_5 (X : Nat → List Int → AMem → Prop) (Q : Int → AMem → Prop) (x3 x4 : Int) (σ : AMem) : Prop :=
  (if x4 < x3 then
  am_r32 (20 * (σ 9790 32)) ∧ am_r32 ((20 * (σ 9790 32)) + x4) ∧ 0 ≤ x4 ∧ x4 < 8192 ∧ 0 ≤ ((20 * (σ 9790 32)) + x4) ∧ ((20 * (σ 9790 32)) + x4) < 320 ∧ am_let (am_upd σ 9814 ((20 * (σ 9790 32)) + x4) (w8 (σ 9791 x4))) (fun σ3 => am_r32 (x4 + 1) ∧ X 5 [9790, x3, (x4 + 1)] σ3)
  else
  0 ≤ (σ 9790 32) ∧ (σ 9790 32) < 16 ∧ am_let (am_upd σ 9816 (σ 9790 32) x3) (fun σ1 => am_r32 ((σ1 9790 32) + 1) ∧ am_let (am_upd σ1 9790 32 ((σ1 9790 32) + 1)) (fun σ2 => Q (σ2 9790 32) σ2)))
def B_Model_wish : (Nat → List Int → AMem → Prop) → (Int → AMem → Prop) → Nat → List Int → AMem → Prop := fun X Q j v σ => am_sel [(am_v1 (fun t σ => if t = 9790 then B_Model_wish_0 X Q σ else False)), (am_v2 (fun t s0 σ => if t = 9790 then B_Model_wish_1 X Q s0 σ else False)), (am_v2 (fun t x1 σ => if t = 9790 then B_Model_wish_2 X Q x1 σ else False)), (am_v2 (fun t x1 σ => if t = 9790 then B_Model_wish_3 X Q x1 σ else False)), (am_v3 (fun t x1 s0 σ => if t = 9790 then B_Model_wish_4 X Q x1 s0 σ else False)), (am_v3 (fun t x3 x4 σ => if t = 9790 then B_Model_wish_5 X Q x3 x4 σ else False))] j v σ
def T_Model_wish : List Int → AMem → (Int → AMem → Prop) → Prop := am_T B_Model_wish
abbrev y_Model_wish : MethodName := ⟨"LinkHouseModel", "wish", "()I"⟩
def a_Model_wish : AC := (227, (y_Model_wish, prog_10_method_58_code, 5, (Option.some Jvm.ClassFile.FieldType.int)), [2], 0, false, { frames := 1, cells := 0, slots := 0, locals := 34 }, T_Model_wish)
set_option maxRecDepth 100000 in
theorem ms_Model_wish : am_MSp a_Model_wish := am_ms_v 9071 9 9069 9070 8 rfl (by decide +kernel)
abbrev k_Model_wish : List AC := [a_Model_isTapeName, a_Model_toldAt, a_Model_throwing]
set_option maxRecDepth 100000 in
theorem s_Model_wish : (am_chkR { frames := 1, cells := 0, slots := 0, locals := 34 } k_Model_wish && am_chkN c_Model_wish { frames := 1, cells := 0, slots := 0, locals := 34 } && c_Model_wish.all (am_chk "LinkHouseModel" prog_10_method_58_code 5 (Option.some Jvm.ClassFile.FieldType.int) k_Model_wish) && c_Model_wish.all (am_chkL m_Model_wish) && decide (m_Model_wish[0]? = some (0, am_argp 0 [2], [])) && decide (am_argn [2] ≤ 5)) = true := by decide +kernel
set_option maxHeartbeats 150000 in
set_option maxRecDepth 100000 in
theorem h_Model_wish : ∀ X Q j v σ, B_Model_wish X Q j v σ → am_at GR k_Model_wish c_Model_wish m_Model_wish X Q 79 j v σ := fun X Q => am_sel_all (P := fun j v σ => am_at GR k_Model_wish c_Model_wish m_Model_wish X Q 79 j v σ) (⟨(am_v1_of (fun t σ h => am_tk (fun e => by subst e; exact fun h => h) h)), ⟨(am_v2_of (fun t s0 σ h => am_tk (fun e => by subst e; exact fun h => h) h)), ⟨(am_v2_of (fun t x1 σ h => am_tk (fun e => by subst e; exact fun h => h) h)), ⟨(am_v2_of (fun t x1 σ h => am_tk (fun e => by subst e; exact fun h => h) h)), ⟨(am_v3_of (fun t x1 s0 σ h => am_tk (fun e => by subst e; exact fun h => h) h)), ⟨(am_v3_of (fun t x3 x4 σ h => am_tk (fun e => by subst e; exact fun h => h) h)), trivial⟩⟩⟩⟩⟩⟩)
set_option maxRecDepth 100000 in
theorem S_Model_wish (l : Launch) (w : AW) : am_S l w GR a_Model_wish := am_sound (rt := 0) (cal := k_Model_wish) 227 y_Model_wish prog_10_method_58_code 5 (Option.some Jvm.ClassFile.FieldType.int) [2] false { frames := 1, cells := 0, slots := 0, locals := 34 } B_Model_wish "LinkHouseModel" c_Model_wish m_Model_wish 79 ms_Model_wish (by decide +kernel) rfl rfl (am_cal (S_Model_isTapeName l w) (am_cal (S_Model_toldAt l w) (am_cal (S_Model_throwing l w) (fun _ h => absurd h List.not_mem_nil)))) s_Model_wish h_Model_wish
set_option maxRecDepth 100000 in
theorem of_Model_wish {Q : Int → AMem → Prop} {σ : AMem} (h : ∀ X : Nat → List Int → AMem → Prop, (∀ (σ : AMem), B_Model_wish_0 X Q σ → X 0 [9790] σ) → (∀ (s0 : Int) (σ : AMem), B_Model_wish_1 X Q s0 σ → X 1 [9790, s0] σ) → (∀ (x1 : Int) (σ : AMem), B_Model_wish_2 X Q x1 σ → X 2 [9790, x1] σ) → (∀ (x1 : Int) (σ : AMem), B_Model_wish_3 X Q x1 σ → X 3 [9790, x1] σ) → (∀ (x1 s0 : Int) (σ : AMem), B_Model_wish_4 X Q x1 s0 σ → X 4 [9790, x1, s0] σ) → (∀ (x3 x4 : Int) (σ : AMem), B_Model_wish_5 X Q x3 x4 σ → X 5 [9790, x3, x4] σ) → X 0 [9790] σ) : T_Model_wish [9790] σ Q := fun X hX => h X (fun σ h => hX 0 [9790] σ h) (fun s0 σ h => hX 1 [9790, s0] σ h) (fun x1 σ h => hX 2 [9790, x1] σ h) (fun x1 σ h => hX 3 [9790, x1] σ h) (fun x1 s0 σ h => hX 4 [9790, x1, s0] σ h) (fun x3 x4 σ h => hX 5 [9790, x3, x4] σ h)
def c_Model_forget : List aE := [(0, 1, .aload_n 0, 1, 0, 0, []), (1, 0, .iconst 0, 1, 0, 0, []), (2, 0, .putfield 281, 3, 8, 0, [0, 0, 6189]), (5, 0, .aload_n 0, 1, 0, 0, []), (6, 0, .iconst 0, 1, 0, 0, []), (7, 0, .putfield 486, 3, 8, 31, [0, 0, 6220]), (10, 0, .aload_n 0, 1, 0, 0, []), (11, 0, .iconst 0, 1, 0, 0, []), (12, 0, .putfield 492, 3, 8, 32, [0, 0, 6221]), (15, 0, .return_, 1, 0, 0, [])]
def m_Model_forget : List aT := [(0, [(0, 2)], [])]
def B_Model_forget_0 (X : Nat → List Int → AMem → Prop) (Q : Int → AMem → Prop) (σ : AMem) : Prop :=
  am_let (am_upd σ 9790 0 0) (fun σ1 => am_let (am_upd σ1 9790 31 0) (fun σ2 => am_let (am_upd σ2 9790 32 0) (fun σ3 => Q 0 σ3)))
def B_Model_forget : (Nat → List Int → AMem → Prop) → (Int → AMem → Prop) → Nat → List Int → AMem → Prop := fun X Q j v σ => am_sel [(am_v1 (fun t σ => if t = 9790 then B_Model_forget_0 X Q σ else False))] j v σ
def T_Model_forget : List Int → AMem → (Int → AMem → Prop) → Prop := am_T B_Model_forget
abbrev y_Model_forget : MethodName := ⟨"LinkHouseModel", "forget", "()V"⟩
def a_Model_forget : AC := (228, (y_Model_forget, prog_10_method_59_code, 1, (Option.none : Option Jvm.ClassFile.FieldType)), [2], 3, false, { frames := 0, cells := 0, slots := 0, locals := 0 }, T_Model_forget)
set_option maxRecDepth 100000 in
theorem ms_Model_forget : am_MSp a_Model_forget := am_ms_v 9075 9 9073 9074 8 rfl (by decide +kernel)
abbrev k_Model_forget : List AC := []
set_option maxRecDepth 100000 in
theorem s_Model_forget : (am_chkR { frames := 0, cells := 0, slots := 0, locals := 0 } k_Model_forget && am_chkN c_Model_forget { frames := 0, cells := 0, slots := 0, locals := 0 } && c_Model_forget.all (am_chk "LinkHouseModel" prog_10_method_59_code 1 (Option.none : Option Jvm.ClassFile.FieldType) k_Model_forget) && c_Model_forget.all (am_chkL m_Model_forget) && decide (m_Model_forget[0]? = some (0, am_argp 0 [2], [])) && decide (am_argn [2] ≤ 1)) = true := by decide +kernel
set_option maxHeartbeats 150000 in
set_option maxRecDepth 100000 in
theorem h_Model_forget : ∀ X Q j v σ, B_Model_forget X Q j v σ → am_at GR k_Model_forget c_Model_forget m_Model_forget X Q 20 j v σ := fun X Q => am_sel_all (P := fun j v σ => am_at GR k_Model_forget c_Model_forget m_Model_forget X Q 20 j v σ) (⟨(am_v1_of (fun t σ h => am_tk (fun e => by subst e; exact fun h => h) h)), trivial⟩)
set_option maxRecDepth 100000 in
theorem S_Model_forget (l : Launch) (w : AW) : am_S l w GR a_Model_forget := am_sound (rt := 3) (cal := k_Model_forget) 228 y_Model_forget prog_10_method_59_code 1 (Option.none : Option Jvm.ClassFile.FieldType) [2] false { frames := 0, cells := 0, slots := 0, locals := 0 } B_Model_forget "LinkHouseModel" c_Model_forget m_Model_forget 20 ms_Model_forget (by decide +kernel) rfl rfl (fun _ h => absurd h List.not_mem_nil) s_Model_forget h_Model_forget
set_option maxRecDepth 100000 in
theorem of_Model_forget {Q : Int → AMem → Prop} {σ : AMem} (h : ∀ X : Nat → List Int → AMem → Prop, (∀ (σ : AMem), B_Model_forget_0 X Q σ → X 0 [9790] σ) → X 0 [9790] σ) : T_Model_forget [9790] σ Q := fun X hX => h X (fun σ h => hX 0 [9790] σ h)
set_option maxRecDepth 100000 in
theorem iff_Model_forget {Q : Int → AMem → Prop} {X : Nat → List Int → AMem → Prop} {σ : AMem} : T_Model_forget [9790] σ Q ↔ B_Model_forget_0 X Q σ := ⟨fun h => h (fun j v σ => B_Model_forget X Q j v σ) (fun _ _ _ q => q), fun h _ hX => hX 0 _ _ h⟩
def c_Model_find : List aE := [(0, 1, .iconst 0, 1, 0, 0, []), (1, 0, .istore 4, 2, 0, 0, []), (3, 2, .iload 4, 2, 0, 0, []), (5, 0, .aload_n 0, 1, 0, 0, []), (6, 0, .getfield 473, 3, 8, 20, [0, 0, 6209]), (9, 0, .if_icmp .ge 92, 3, 0, 0, []), (12, 0, .aload_n 0, 1, 0, 0, []), (13, 0, .getfield 57, 3, 8, 22, [2, 0, 6211]), (16, 0, .iload 4, 2, 0, 0, []), (18, 0, .iaload, 1, 0, 0, []), (19, 0, .iload_n 3, 1, 0, 0, []), (20, 0, .iload_n 2, 1, 0, 0, []), (21, 0, .isub, 1, 0, 0, []), (22, 0, .if_icmp .ne 7, 3, 0, 0, []), (25, 0, .iconst 1, 1, 0, 0, []), (26, 0, .goto 4, 3, 0, 0, []), (29, 0, .iconst 0, 1, 0, 0, []), (30, 3, .istore 5, 2, 0, 0, []), (32, 0, .iconst 0, 1, 0, 0, []), (33, 0, .istore 6, 2, 0, 0, []), (35, 4, .iload 6, 2, 0, 0, []), (37, 0, .aload_n 0, 1, 0, 0, []), (38, 0, .getfield 57, 3, 8, 22, [2, 0, 6211]), (41, 0, .iload 4, 2, 0, 0, []), (43, 0, .iaload, 1, 0, 0, []), (44, 0, .if_icmp .ge 43, 3, 0, 0, []), (47, 0, .iload 5, 2, 0, 0, []), (49, 0, .ifCond .eq 38, 3, 0, 0, []), (52, 0, .aload_n 0, 1, 0, 0, []), (53, 0, .getfield 54, 3, 8, 21, [2, 0, 6210]), (56, 0, .bipush 20, 2, 0, 0, []), (58, 0, .iload 4, 2, 0, 0, []), (60, 0, .imul, 1, 0, 0, []), (61, 0, .iload 6, 2, 0, 0, []), (63, 0, .iadd, 1, 0, 0, []), (64, 0, .baload, 1, 2, 0, []), (65, 0, .aload_n 1, 1, 0, 0, []), (66, 0, .iload_n 2, 1, 0, 0, []), (67, 0, .iload 6, 2, 0, 0, []), (69, 0, .iadd, 1, 0, 0, []), (70, 0, .baload, 1, 2, 0, []), (71, 0, .if_icmp .ne 7, 3, 0, 0, []), (74, 0, .iconst 1, 1, 0, 0, []), (75, 0, .goto 4, 3, 0, 0, []), (78, 0, .iconst 0, 1, 0, 0, []), (79, 5, .istore 5, 2, 0, 0, []), (81, 0, .iinc 6 1, 3, 0, 0, []), (84, 0, .goto (-49), 3, 0, 0, []), (87, 6, .iload 5, 2, 0, 0, []), (89, 0, .ifCond .eq 6, 3, 0, 0, []), (92, 0, .iload 4, 2, 0, 0, []), (94, 0, .ireturn, 1, 0, 0, []), (95, 0, .iinc 4 1, 3, 0, 0, []), (98, 0, .goto (-95), 3, 0, 0, []), (101, 0, .iconst (-1), 1, 0, 0, []), (102, 0, .ireturn, 1, 0, 0, [])]
def m_Model_find : List aT := [(0, [(0, 2), (1, 2), (2, 0), (3, 0)], []), (3, [(0, 2), (1, 2), (2, 0), (3, 0), (4, 0)], []), (30, [(0, 2), (1, 2), (2, 0), (3, 0), (4, 0)], [0]), (35, [(0, 2), (1, 2), (2, 0), (3, 0), (4, 0), (5, 0), (6, 0)], []), (79, [(0, 2), (1, 2), (2, 0), (3, 0), (4, 0), (6, 0)], [0]), (87, [(0, 2), (1, 2), (2, 0), (3, 0), (4, 0), (5, 0)], [])]
def B_Model_find_0 (X : Nat → List Int → AMem → Prop) (Q : Int → AMem → Prop) (x1 x2 x3 : Int) (σ : AMem) : Prop :=
  X 1 [9790, x1, x2, x3, 0] σ
def B_Model_find_1 (X : Nat → List Int → AMem → Prop) (Q : Int → AMem → Prop) (x1 x2 x3 x4 : Int) (σ : AMem) : Prop :=
  (if x4 < (σ 9790 20) then
  0 ≤ x4 ∧ x4 < 4096 ∧ am_r32 (x3 - x2) ∧ (if (σ 9804 x4) = (x3 - x2) then
    X 2 [9790, x1, x2, x3, x4, 1] σ
    else
    X 2 [9790, x1, x2, x3, x4, 0] σ)
  else
  Q (-1) σ)
def B_Model_find_2 (X : Nat → List Int → AMem → Prop) (Q : Int → AMem → Prop) (x1 x2 x3 x4 s0 : Int) (σ : AMem) : Prop :=
  X 3 [9790, x1, x2, x3, x4, s0, 0] σ
def B_Model_find_3 (X : Nat → List Int → AMem → Prop) (Q : Int → AMem → Prop) (x1 x2 x3 x4 x5 x6 : Int) (σ : AMem) : Prop :=
  0 ≤ x4 ∧ x4 < 4096 ∧ (if x6 < (σ 9804 x4) then
  (if x5 = 0 then
    X 5 [9790, x1, x2, x3, x4, x5] σ
    else
    am_r32 (20 * x4) ∧ am_r32 ((20 * x4) + x6) ∧ 0 ≤ ((20 * x4) + x6) ∧ ((20 * x4) + x6) < 81920 ∧ am_r32 (x2 + x6) ∧ (if ly_k x1 = 2 then 0 ≤ (x2 + x6) ∧ (x2 + x6) < ly_l x1 ∧ (if (σ 9803 ((20 * x4) + x6)) = (σ x1 (x2 + x6)) then
      X 4 [9790, x1, x2, x3, x4, x6, 1] σ
      else
      X 4 [9790, x1, x2, x3, x4, x6, 0] σ) else False))
  else
  X 5 [9790, x1, x2, x3, x4, x5] σ)
def B_Model_find_4 (X : Nat → List Int → AMem → Prop) (Q : Int → AMem → Prop) (x1 x2 x3 x4 x6 s0 : Int) (σ : AMem) : Prop :=
  am_r32 (x6 + 1) ∧ X 3 [9790, x1, x2, x3, x4, s0, (x6 + 1)] σ
def B_Model_find_5 (X : Nat → List Int → AMem → Prop) (Q : Int → AMem → Prop) (x1 x2 x3 x4 x5 : Int) (σ : AMem) : Prop :=
  (if x5 = 0 then
  am_r32 (x4 + 1) ∧ X 1 [9790, x1, x2, x3, (x4 + 1)] σ
  else
  Q x4 σ)
def B_Model_find : (Nat → List Int → AMem → Prop) → (Int → AMem → Prop) → Nat → List Int → AMem → Prop := fun X Q j v σ => am_sel [(am_v4 (fun t x1 x2 x3 σ => if t = 9790 then B_Model_find_0 X Q x1 x2 x3 σ else False)), (am_v5 (fun t x1 x2 x3 x4 σ => if t = 9790 then B_Model_find_1 X Q x1 x2 x3 x4 σ else False)), (am_v6 (fun t x1 x2 x3 x4 s0 σ => if t = 9790 then B_Model_find_2 X Q x1 x2 x3 x4 s0 σ else False)), (am_v7 (fun t x1 x2 x3 x4 x5 x6 σ => if t = 9790 then B_Model_find_3 X Q x1 x2 x3 x4 x5 x6 σ else False)), (am_v7 (fun t x1 x2 x3 x4 x6 s0 σ => if t = 9790 then B_Model_find_4 X Q x1 x2 x3 x4 x6 s0 σ else False)), (am_v6 (fun t x1 x2 x3 x4 x5 σ => if t = 9790 then B_Model_find_5 X Q x1 x2 x3 x4 x5 σ else False))] j v σ
def T_Model_find : List Int → AMem → (Int → AMem → Prop) → Prop := am_T B_Model_find
abbrev y_Model_find : MethodName := ⟨"LinkHouseModel", "find", "([BII)I"⟩
def a_Model_find : AC := (229, (y_Model_find, prog_10_method_49_code, 7, (Option.some Jvm.ClassFile.FieldType.int)), [2, 2, 0, 0], 0, false, { frames := 0, cells := 0, slots := 0, locals := 0 }, T_Model_find)
set_option maxRecDepth 100000 in
theorem ms_Model_find : am_MSp a_Model_find := am_ms_v 9091 9 9090 108003 8 rfl (by decide +kernel)
abbrev k_Model_find : List AC := []
set_option maxRecDepth 100000 in
theorem s_Model_find : (am_chkR { frames := 0, cells := 0, slots := 0, locals := 0 } k_Model_find && am_chkN c_Model_find { frames := 0, cells := 0, slots := 0, locals := 0 } && c_Model_find.all (am_chk "LinkHouseModel" prog_10_method_49_code 7 (Option.some Jvm.ClassFile.FieldType.int) k_Model_find) && c_Model_find.all (am_chkL m_Model_find) && decide (m_Model_find[0]? = some (0, am_argp 0 [2, 2, 0, 0], [])) && decide (am_argn [2, 2, 0, 0] ≤ 7)) = true := by decide +kernel
set_option maxHeartbeats 150000 in
set_option maxRecDepth 100000 in
theorem h_Model_find : ∀ X Q j v σ, B_Model_find X Q j v σ → am_at GR k_Model_find c_Model_find m_Model_find X Q 61 j v σ := fun X Q => am_sel_all (P := fun j v σ => am_at GR k_Model_find c_Model_find m_Model_find X Q 61 j v σ) (⟨(am_v4_of (fun t x1 x2 x3 σ h => am_tk (fun e => by subst e; exact fun h => h) h)), ⟨(am_v5_of (fun t x1 x2 x3 x4 σ h => am_tk (fun e => by subst e; exact fun h => h) h)), ⟨(am_v6_of (fun t x1 x2 x3 x4 s0 σ h => am_tk (fun e => by subst e; exact fun h => h) h)), ⟨(am_v7_of (fun t x1 x2 x3 x4 x5 x6 σ h => am_tk (fun e => by subst e; exact fun h => h) h)), ⟨(am_v7_of (fun t x1 x2 x3 x4 x6 s0 σ h => am_tk (fun e => by subst e; exact fun h => h) h)), ⟨(am_v6_of (fun t x1 x2 x3 x4 x5 σ h => am_tk (fun e => by subst e; exact fun h => h) h)), trivial⟩⟩⟩⟩⟩⟩)
set_option maxRecDepth 100000 in
theorem S_Model_find (l : Launch) (w : AW) : am_S l w GR a_Model_find := am_sound (rt := 0) (cal := k_Model_find) 229 y_Model_find prog_10_method_49_code 7 (Option.some Jvm.ClassFile.FieldType.int) [2, 2, 0, 0] false { frames := 0, cells := 0, slots := 0, locals := 0 } B_Model_find "LinkHouseModel" c_Model_find m_Model_find 61 ms_Model_find (by decide +kernel) rfl rfl (fun _ h => absurd h List.not_mem_nil) s_Model_find h_Model_find
set_option maxRecDepth 100000 in
theorem of_Model_find {Q : Int → AMem → Prop} {x1 x2 x3 : Int} {σ : AMem} (h : ∀ X : Nat → List Int → AMem → Prop, (∀ (x1 x2 x3 : Int) (σ : AMem), B_Model_find_0 X Q x1 x2 x3 σ → X 0 [9790, x1, x2, x3] σ) → (∀ (x1 x2 x3 x4 : Int) (σ : AMem), B_Model_find_1 X Q x1 x2 x3 x4 σ → X 1 [9790, x1, x2, x3, x4] σ) → (∀ (x1 x2 x3 x4 s0 : Int) (σ : AMem), B_Model_find_2 X Q x1 x2 x3 x4 s0 σ → X 2 [9790, x1, x2, x3, x4, s0] σ) → (∀ (x1 x2 x3 x4 x5 x6 : Int) (σ : AMem), B_Model_find_3 X Q x1 x2 x3 x4 x5 x6 σ → X 3 [9790, x1, x2, x3, x4, x5, x6] σ) → (∀ (x1 x2 x3 x4 x6 s0 : Int) (σ : AMem), B_Model_find_4 X Q x1 x2 x3 x4 x6 s0 σ → X 4 [9790, x1, x2, x3, x4, x6, s0] σ) → (∀ (x1 x2 x3 x4 x5 : Int) (σ : AMem), B_Model_find_5 X Q x1 x2 x3 x4 x5 σ → X 5 [9790, x1, x2, x3, x4, x5] σ) → X 0 [9790, x1, x2, x3] σ) : T_Model_find [9790, x1, x2, x3] σ Q := fun X hX => h X (fun x1 x2 x3 σ h => hX 0 [9790, x1, x2, x3] σ h) (fun x1 x2 x3 x4 σ h => hX 1 [9790, x1, x2, x3, x4] σ h) (fun x1 x2 x3 x4 s0 σ h => hX 2 [9790, x1, x2, x3, x4, s0] σ h) (fun x1 x2 x3 x4 x5 x6 σ h => hX 3 [9790, x1, x2, x3, x4, x5, x6] σ h) (fun x1 x2 x3 x4 x6 s0 σ h => hX 4 [9790, x1, x2, x3, x4, x6, s0] σ h) (fun x1 x2 x3 x4 x5 σ h => hX 5 [9790, x1, x2, x3, x4, x5] σ h)
def c_Model_entered : List aE := [(0, 1, .aload_n 0, 1, 0, 0, []), (1, 0, .aload_n 1, 1, 0, 0, []), (2, 0, .iload_n 2, 1, 0, 0, []), (3, 0, .iload_n 3, 1, 0, 0, []), (4, 0, .invokevirtual 479, 3, 229, 8, [9088]), (7, 0, .istore 4, 2, 0, 0, []), (9, 0, .iload 4, 2, 0, 0, []), (11, 0, .ifCond .lt 6, 3, 0, 0, []), (14, 0, .iload 4, 2, 0, 0, []), (16, 0, .ireturn, 1, 0, 0, []), (17, 0, .aload_n 0, 1, 0, 0, []), (18, 0, .getfield 473, 3, 8, 20, [0, 0, 6209]), (21, 0, .istore 4, 2, 0, 0, []), (23, 0, .aload_n 0, 1, 0, 0, []), (24, 0, .getfield 57, 3, 8, 22, [2, 0, 6211]), (27, 0, .iload 4, 2, 0, 0, []), (29, 0, .iload_n 3, 1, 0, 0, []), (30, 0, .iload_n 2, 1, 0, 0, []), (31, 0, .isub, 1, 0, 0, []), (32, 0, .iastore, 1, 0, 0, []), (33, 0, .iconst 0, 1, 0, 0, []), (34, 0, .istore 5, 2, 0, 0, []), (36, 2, .iload 5, 2, 0, 0, []), (38, 0, .aload_n 0, 1, 0, 0, []), (39, 0, .getfield 57, 3, 8, 22, [2, 0, 6211]), (42, 0, .iload 4, 2, 0, 0, []), (44, 0, .iaload, 1, 0, 0, []), (45, 0, .if_icmp .ge 28, 3, 0, 0, []), (48, 0, .aload_n 0, 1, 0, 0, []), (49, 0, .getfield 54, 3, 8, 21, [2, 0, 6210]), (52, 0, .bipush 20, 2, 0, 0, []), (54, 0, .iload 4, 2, 0, 0, []), (56, 0, .imul, 1, 0, 0, []), (57, 0, .iload 5, 2, 0, 0, []), (59, 0, .iadd, 1, 0, 0, []), (60, 0, .aload_n 1, 1, 0, 0, []), (61, 0, .iload_n 2, 1, 0, 0, []), (62, 0, .iload 5, 2, 0, 0, []), (64, 0, .iadd, 1, 0, 0, []), (65, 0, .baload, 1, 2, 0, []), (66, 0, .bastore, 1, 2, 0, []), (67, 0, .iinc 5 1, 3, 0, 0, []), (70, 0, .goto (-34), 3, 0, 0, []), (73, 0, .aload_n 0, 1, 0, 0, []), (74, 0, .getfield 60, 3, 8, 23, [2, 0, 6212]), (77, 0, .iload 4, 2, 0, 0, []), (79, 0, .iconst 0, 1, 0, 0, []), (80, 0, .iastore, 1, 0, 0, []), (81, 0, .aload_n 0, 1, 0, 0, []), (82, 0, .getfield 75, 3, 8, 28, [2, 0, 6217]), (85, 0, .iload 4, 2, 0, 0, []), (87, 0, .iconst 0, 1, 0, 0, []), (88, 0, .bastore, 1, 3, 0, []), (89, 0, .aload_n 0, 1, 0, 0, []), (90, 0, .getfield 181, 3, 8, 73, [2, 0, 7022]), (93, 0, .iload 4, 2, 0, 0, []), (95, 0, .iconst 0, 1, 0, 0, []), (96, 0, .iastore, 1, 0, 0, []), (97, 0, .aload_n 0, 1, 0, 0, []), (98, 0, .getfield 63, 3, 8, 24, [2, 0, 6213]), (101, 0, .iload 4, 2, 0, 0, []), (103, 0, .iconst (-1), 1, 0, 0, []), (104, 0, .iastore, 1, 0, 0, []), (105, 0, .aload_n 0, 1, 0, 0, []), (106, 0, .getfield 82, 3, 8, 30, [2, 0, 6219]), (109, 0, .iload 4, 2, 0, 0, []), (111, 0, .lconst 0, 1, 0, 0, []), (112, 0, .lastore, 1, 0, 0, []), (113, 0, .aload_n 0, 1, 0, 0, []), (114, 0, .dup, 1, 0, 0, []), (115, 0, .getfield 473, 3, 8, 20, [0, 0, 6209]), (118, 0, .iconst 1, 1, 0, 0, []), (119, 0, .iadd, 1, 0, 0, []), (120, 0, .putfield 473, 3, 8, 20, [0, 0, 6209]), (123, 0, .iload 4, 2, 0, 0, []), (125, 0, .ireturn, 1, 0, 0, [])]
def m_Model_entered : List aT := [(0, [(0, 2), (1, 2), (2, 0), (3, 0)], []), (36, [(0, 2), (1, 2), (2, 0), (4, 0), (5, 0)], [])]
def B_Model_entered_0 (X : Nat → List Int → AMem → Prop) (Q : Int → AMem → Prop) (x1 x2 x3 : Int) (σ : AMem) : Prop :=
  T_Model_find [9790, x1, x2, x3] σ (fun r1 σ2 => (if r1 < 0 then
  am_r32 (x3 - x2) ∧ 0 ≤ (σ2 9790 20) ∧ (σ2 9790 20) < 4096 ∧ am_let (am_upd σ2 9804 (σ2 9790 20) (x3 - x2)) (fun σ3 => X 1 [9790, x1, x2, (σ2 9790 20), 0] σ3)
  else
  Q r1 σ2))
def B_Model_entered_1 (X : Nat → List Int → AMem → Prop) (Q : Int → AMem → Prop) (x1 x2 x4 x5 : Int) (σ : AMem) : Prop :=
  0 ≤ x4 ∧ x4 < 4096 ∧ (if x5 < (σ 9804 x4) then
  am_r32 (20 * x4) ∧ am_r32 ((20 * x4) + x5) ∧ am_r32 (x2 + x5) ∧ (if ly_k x1 = 2 then 0 ≤ (x2 + x5) ∧ (x2 + x5) < ly_l x1 ∧ 0 ≤ ((20 * x4) + x5) ∧ ((20 * x4) + x5) < 81920 ∧ am_let (am_upd σ 9803 ((20 * x4) + x5) (w8 (σ x1 (x2 + x5)))) (fun σ7 => am_r32 (x5 + 1) ∧ X 1 [9790, x1, x2, x4, (x5 + 1)] σ7) else False)
  else
  0 ≤ x4 ∧ x4 < 4096 ∧ am_let (am_upd σ 9805 x4 0) (fun σ1 => 0 ≤ x4 ∧ x4 < 4096 ∧ am_let (am_upd σ1 9810 x4 0) (fun σ2 => 0 ≤ x4 ∧ x4 < 4096 ∧ am_let (am_upd σ2 9845 x4 0) (fun σ3 => 0 ≤ x4 ∧ x4 < 4096 ∧ am_let (am_upd σ3 9806 x4 (-1)) (fun σ4 => 0 ≤ x4 ∧ x4 < 4096 ∧ am_let (am_upd σ4 9812 x4 0) (fun σ5 => am_r32 ((σ5 9790 20) + 1) ∧ am_let (am_upd σ5 9790 20 ((σ5 9790 20) + 1)) (fun σ6 => Q x4 σ6)))))))
def B_Model_entered : (Nat → List Int → AMem → Prop) → (Int → AMem → Prop) → Nat → List Int → AMem → Prop := fun X Q j v σ => am_sel [(am_v4 (fun t x1 x2 x3 σ => if t = 9790 then B_Model_entered_0 X Q x1 x2 x3 σ else False)), (am_v5 (fun t x1 x2 x4 x5 σ => if t = 9790 then B_Model_entered_1 X Q x1 x2 x4 x5 σ else False))] j v σ
def T_Model_entered : List Int → AMem → (Int → AMem → Prop) → Prop := am_T B_Model_entered
abbrev y_Model_entered : MethodName := ⟨"LinkHouseModel", "entered", "([BII)I"⟩
def a_Model_entered : AC := (230, (y_Model_entered, prog_10_method_51_code, 6, (Option.some Jvm.ClassFile.FieldType.int)), [2, 2, 0, 0], 0, false, { frames := 1, cells := 0, slots := 0, locals := 34 }, T_Model_entered)
set_option maxRecDepth 100000 in
theorem ms_Model_entered : am_MSp a_Model_entered := am_ms_v 9087 9 9086 108002 8 rfl (by decide +kernel)
abbrev k_Model_entered : List AC := [a_Model_find]
set_option maxRecDepth 100000 in
theorem s_Model_entered : (am_chkR { frames := 1, cells := 0, slots := 0, locals := 34 } k_Model_entered && am_chkN c_Model_entered { frames := 1, cells := 0, slots := 0, locals := 34 } && c_Model_entered.all (am_chk "LinkHouseModel" prog_10_method_51_code 6 (Option.some Jvm.ClassFile.FieldType.int) k_Model_entered) && c_Model_entered.all (am_chkL m_Model_entered) && decide (m_Model_entered[0]? = some (0, am_argp 0 [2, 2, 0, 0], [])) && decide (am_argn [2, 2, 0, 0] ≤ 6)) = true := by decide +kernel
set_option maxHeartbeats 150000 in
set_option maxRecDepth 100000 in
theorem h_Model_entered : ∀ X Q j v σ, B_Model_entered X Q j v σ → am_at GR k_Model_entered c_Model_entered m_Model_entered X Q 81 j v σ := fun X Q => am_sel_all (P := fun j v σ => am_at GR k_Model_entered c_Model_entered m_Model_entered X Q 81 j v σ) (⟨(am_v4_of (fun t x1 x2 x3 σ h => am_tk (fun e => by subst e; exact fun h => h) h)), ⟨(am_v5_of (fun t x1 x2 x4 x5 σ h => am_tk (fun e => by subst e; exact fun h => h) h)), trivial⟩⟩)
set_option maxRecDepth 100000 in
theorem S_Model_entered (l : Launch) (w : AW) : am_S l w GR a_Model_entered := am_sound (rt := 0) (cal := k_Model_entered) 230 y_Model_entered prog_10_method_51_code 6 (Option.some Jvm.ClassFile.FieldType.int) [2, 2, 0, 0] false { frames := 1, cells := 0, slots := 0, locals := 34 } B_Model_entered "LinkHouseModel" c_Model_entered m_Model_entered 81 ms_Model_entered (by decide +kernel) rfl rfl (am_cal (S_Model_find l w) (fun _ h => absurd h List.not_mem_nil)) s_Model_entered h_Model_entered
set_option maxRecDepth 100000 in
theorem of_Model_entered {Q : Int → AMem → Prop} {x1 x2 x3 : Int} {σ : AMem} (h : ∀ X : Nat → List Int → AMem → Prop, (∀ (x1 x2 x3 : Int) (σ : AMem), B_Model_entered_0 X Q x1 x2 x3 σ → X 0 [9790, x1, x2, x3] σ) → (∀ (x1 x2 x4 x5 : Int) (σ : AMem), B_Model_entered_1 X Q x1 x2 x4 x5 σ → X 1 [9790, x1, x2, x4, x5] σ) → X 0 [9790, x1, x2, x3] σ) : T_Model_entered [9790, x1, x2, x3] σ Q := fun X hX => h X (fun x1 x2 x3 σ h => hX 0 [9790, x1, x2, x3] σ h) (fun x1 x2 x4 x5 σ h => hX 1 [9790, x1, x2, x4, x5] σ h)
def c_Model_tellNames : List aE := [(0, 1, .iconst 0, 1, 0, 0, []), (1, 0, .istore_n 1, 1, 0, 0, []), (2, 2, .iload_n 1, 1, 0, 0, []), (3, 0, .aload_n 0, 1, 0, 0, []), (4, 0, .getfield 486, 3, 8, 31, [0, 0, 6220]), (7, 0, .if_icmp .ge 72, 3, 0, 0, []), (10, 0, .aload_n 0, 1, 0, 0, []), (11, 0, .aload_n 0, 1, 0, 0, []), (12, 0, .getfield 85, 3, 8, 33, [2, 0, 6222]), (15, 0, .bipush 20, 2, 0, 0, []), (17, 0, .iload_n 1, 1, 0, 0, []), (18, 0, .imul, 1, 0, 0, []), (19, 0, .bipush 20, 2, 0, 0, []), (21, 0, .iload_n 1, 1, 0, 0, []), (22, 0, .imul, 1, 0, 0, []), (23, 0, .aload_n 0, 1, 0, 0, []), (24, 0, .getfield 91, 3, 8, 35, [2, 0, 6224]), (27, 0, .iload_n 1, 1, 0, 0, []), (28, 0, .iaload, 1, 0, 0, []), (29, 0, .iadd, 1, 0, 0, []), (30, 0, .invokevirtual 483, 3, 230, 8, [9084]), (33, 0, .istore_n 2, 1, 0, 0, []), (34, 0, .aload_n 0, 1, 0, 0, []), (35, 0, .getfield 60, 3, 8, 23, [2, 0, 6212]), (38, 0, .iload_n 2, 1, 0, 0, []), (39, 0, .iconst 3, 1, 0, 0, []), (40, 0, .iastore, 1, 0, 0, []), (41, 0, .aload_n 0, 1, 0, 0, []), (42, 0, .getfield 82, 3, 8, 30, [2, 0, 6219]), (45, 0, .iload_n 2, 1, 0, 0, []), (46, 0, .aload_n 0, 1, 0, 0, []), (47, 0, .getfield 97, 3, 8, 37, [2, 0, 6226]), (50, 0, .iload_n 1, 1, 0, 0, []), (51, 0, .laload, 1, 0, 0, []), (52, 0, .lastore, 1, 0, 0, []), (53, 0, .aload_n 0, 1, 0, 0, []), (54, 0, .getfield 124, 3, 8, 49, [2, 0, 6238]), (57, 0, .aload_n 0, 1, 0, 0, []), (58, 0, .getfield 489, 3, 8, 48, [0, 0, 6237]), (61, 0, .iload_n 2, 1, 0, 0, []), (62, 0, .iastore, 1, 0, 0, []), (63, 0, .aload_n 0, 1, 0, 0, []), (64, 0, .dup, 1, 0, 0, []), (65, 0, .getfield 489, 3, 8, 48, [0, 0, 6237]), (68, 0, .iconst 1, 1, 0, 0, []), (69, 0, .iadd, 1, 0, 0, []), (70, 0, .putfield 489, 3, 8, 48, [0, 0, 6237]), (73, 0, .iinc 1 1, 3, 0, 0, []), (76, 0, .goto (-74), 3, 0, 0, []), (79, 0, .iconst 0, 1, 0, 0, []), (80, 0, .istore_n 1, 1, 0, 0, []), (81, 3, .iload_n 1, 1, 0, 0, []), (82, 0, .aload_n 0, 1, 0, 0, []), (83, 0, .getfield 492, 3, 8, 32, [0, 0, 6221]), (86, 0, .if_icmp .ge 40, 3, 0, 0, []), (89, 0, .aload_n 0, 1, 0, 0, []), (90, 0, .aload_n 0, 1, 0, 0, []), (91, 0, .getfield 88, 3, 8, 34, [2, 0, 6223]), (94, 0, .bipush 20, 2, 0, 0, []), (96, 0, .iload_n 1, 1, 0, 0, []), (97, 0, .imul, 1, 0, 0, []), (98, 0, .bipush 20, 2, 0, 0, []), (100, 0, .iload_n 1, 1, 0, 0, []), (101, 0, .imul, 1, 0, 0, []), (102, 0, .aload_n 0, 1, 0, 0, []), (103, 0, .getfield 94, 3, 8, 36, [2, 0, 6225]), (106, 0, .iload_n 1, 1, 0, 0, []), (107, 0, .iaload, 1, 0, 0, []), (108, 0, .iadd, 1, 0, 0, []), (109, 0, .invokevirtual 483, 3, 230, 8, [9084]), (112, 0, .istore_n 2, 1, 0, 0, []), (113, 0, .aload_n 0, 1, 0, 0, []), (114, 0, .getfield 75, 3, 8, 28, [2, 0, 6217]), (117, 0, .iload_n 2, 1, 0, 0, []), (118, 0, .iconst 1, 1, 0, 0, []), (119, 0, .bastore, 1, 3, 0, []), (120, 0, .iinc 1 1, 3, 0, 0, []), (123, 0, .goto (-42), 3, 0, 0, []), (126, 0, .return_, 1, 0, 0, [])]
def m_Model_tellNames : List aT := [(0, [(0, 2)], []), (2, [(0, 2), (1, 0)], []), (81, [(0, 2), (1, 0)], [])]
def B_Model_tellNames_0 (X : Nat → List Int → AMem → Prop) (Q : Int → AMem → Prop) (σ : AMem) : Prop :=
  X 1 [9790, 0] σ
def B_Model_tellNames_1 (X : Nat → List Int → AMem → Prop) (Q : Int → AMem → Prop) (x1 : Int) (σ : AMem) : Prop :=
  (if x1 < (σ 9790 31) then
  am_r32 (20 * x1) ∧ am_r32 (20 * x1) ∧ 0 ≤ x1 ∧ x1 < 16 ∧ am_r32 ((20 * x1) + (σ 9815 x1)) ∧ T_Model_entered [9790, 9813, (20 * x1), ((20 * x1) + (σ 9815 x1))] σ (fun r1 σ2 => 0 ≤ r1 ∧ r1 < 4096 ∧ am_let (am_upd σ2 9805 r1 3) (fun σ3 => 0 ≤ x1 ∧ x1 < 16 ∧ 0 ≤ r1 ∧ r1 < 4096 ∧ am_let (am_upd σ3 9812 r1 (σ3 9817 x1)) (fun σ4 => 0 ≤ (σ4 9790 48) ∧ (σ4 9790 48) < 4096 ∧ am_let (am_upd σ4 9826 (σ4 9790 48) r1) (fun σ5 => am_r32 ((σ5 9790 48) + 1) ∧ am_let (am_upd σ5 9790 48 ((σ5 9790 48) + 1)) (fun σ6 => am_r32 (x1 + 1) ∧ X 1 [9790, (x1 + 1)] σ6)))))
  else
  X 2 [9790, 0] σ)
def B_Model_tellNames_2 (X : Nat → List Int → AMem → Prop) (Q : Int → AMem → Prop) (x1 : Int) (σ : AMem) : Prop :=
  (if x1 < (σ 9790 32) then
  am_r32 (20 * x1) ∧ am_r32 (20 * x1) ∧ 0 ≤ x1 ∧ x1 < 16 ∧ am_r32 ((20 * x1) + (σ 9816 x1)) ∧ T_Model_entered [9790, 9814, (20 * x1), ((20 * x1) + (σ 9816 x1))] σ (fun r1 σ2 => 0 ≤ r1 ∧ r1 < 4096 ∧ am_let (am_upd σ2 9810 r1 1) (fun σ3 => am_r32 (x1 + 1) ∧ X 2 [9790, (x1 + 1)] σ3))
  else
  Q 0 σ)
def B_Model_tellNames : (Nat → List Int → AMem → Prop) → (Int → AMem → Prop) → Nat → List Int → AMem → Prop := fun X Q j v σ => am_sel [(am_v1 (fun t σ => if t = 9790 then B_Model_tellNames_0 X Q σ else False)), (am_v2 (fun t x1 σ => if t = 9790 then B_Model_tellNames_1 X Q x1 σ else False)), (am_v2 (fun t x1 σ => if t = 9790 then B_Model_tellNames_2 X Q x1 σ else False))] j v σ
def T_Model_tellNames : List Int → AMem → (Int → AMem → Prop) → Prop := am_T B_Model_tellNames
abbrev y_Model_tellNames : MethodName := ⟨"LinkHouseModel", "tellNames", "()V"⟩
def a_Model_tellNames : AC := (231, (y_Model_tellNames, prog_10_method_53_code, 3, (Option.none : Option Jvm.ClassFile.FieldType)), [2], 3, false, { frames := 2, cells := 0, slots := 0, locals := 67 }, T_Model_tellNames)
set_option maxRecDepth 100000 in
theorem ms_Model_tellNames : am_MSp a_Model_tellNames := am_ms_v 9083 9 9082 108001 8 rfl (by decide +kernel)
abbrev k_Model_tellNames : List AC := [a_Model_entered]
set_option maxRecDepth 100000 in
theorem s_Model_tellNames : (am_chkR { frames := 2, cells := 0, slots := 0, locals := 67 } k_Model_tellNames && am_chkN c_Model_tellNames { frames := 2, cells := 0, slots := 0, locals := 67 } && c_Model_tellNames.all (am_chk "LinkHouseModel" prog_10_method_53_code 3 (Option.none : Option Jvm.ClassFile.FieldType) k_Model_tellNames) && c_Model_tellNames.all (am_chkL m_Model_tellNames) && decide (m_Model_tellNames[0]? = some (0, am_argp 0 [2], [])) && decide (am_argn [2] ≤ 3)) = true := by decide +kernel
set_option maxHeartbeats 150000 in
set_option maxRecDepth 100000 in
theorem h_Model_tellNames : ∀ X Q j v σ, B_Model_tellNames X Q j v σ → am_at GR k_Model_tellNames c_Model_tellNames m_Model_tellNames X Q 84 j v σ := fun X Q => am_sel_all (P := fun j v σ => am_at GR k_Model_tellNames c_Model_tellNames m_Model_tellNames X Q 84 j v σ) (⟨(am_v1_of (fun t σ h => am_tk (fun e => by subst e; exact fun h => h) h)), ⟨(am_v2_of (fun t x1 σ h => am_tk (fun e => by subst e; exact fun h => h) h)), ⟨(am_v2_of (fun t x1 σ h => am_tk (fun e => by subst e; exact fun h => h) h)), trivial⟩⟩⟩)
set_option maxRecDepth 100000 in
theorem S_Model_tellNames (l : Launch) (w : AW) : am_S l w GR a_Model_tellNames := am_sound (rt := 3) (cal := k_Model_tellNames) 231 y_Model_tellNames prog_10_method_53_code 3 (Option.none : Option Jvm.ClassFile.FieldType) [2] false { frames := 2, cells := 0, slots := 0, locals := 67 } B_Model_tellNames "LinkHouseModel" c_Model_tellNames m_Model_tellNames 84 ms_Model_tellNames (by decide +kernel) rfl rfl (am_cal (S_Model_entered l w) (fun _ h => absurd h List.not_mem_nil)) s_Model_tellNames h_Model_tellNames
set_option maxRecDepth 100000 in
theorem of_Model_tellNames {Q : Int → AMem → Prop} {σ : AMem} (h : ∀ X : Nat → List Int → AMem → Prop, (∀ (σ : AMem), B_Model_tellNames_0 X Q σ → X 0 [9790] σ) → (∀ (x1 : Int) (σ : AMem), B_Model_tellNames_1 X Q x1 σ → X 1 [9790, x1] σ) → (∀ (x1 : Int) (σ : AMem), B_Model_tellNames_2 X Q x1 σ → X 2 [9790, x1] σ) → X 0 [9790] σ) : T_Model_tellNames [9790] σ Q := fun X hX => h X (fun σ h => hX 0 [9790] σ h) (fun x1 σ h => hX 1 [9790, x1] σ h) (fun x1 σ h => hX 2 [9790, x1] σ h)
def c_Model_nameAt : List aE := [(0, 1, .iload_n 1, 1, 0, 0, []), (1, 0, .aload_n 0, 1, 0, 0, []), (2, 0, .iload_n 1, 1, 0, 0, []), (3, 0, .aload_n 0, 1, 0, 0, []), (4, 0, .iload_n 1, 1, 0, 0, []), (5, 0, .aload_n 0, 1, 0, 0, []), (6, 0, .iload_n 1, 1, 0, 0, []), (7, 0, .invokevirtual 317, 3, 196, 8, [8186]), (10, 0, .invokevirtual 329, 3, 197, 8, [8192]), (13, 0, .l2i, 1, 0, 0, []), (14, 0, .invokevirtual 323, 3, 189, 8, [8156]), (17, 0, .l2i, 1, 0, 0, []), (18, 0, .iadd, 1, 0, 0, []), (19, 0, .aload_n 0, 1, 0, 0, []), (20, 0, .aload_n 0, 1, 0, 0, []), (21, 0, .iload_n 1, 1, 0, 0, []), (22, 0, .iload_n 2, 1, 0, 0, []), (23, 0, .invokevirtual 326, 3, 199, 8, [8209]), (26, 0, .iconst 4, 1, 0, 0, []), (27, 0, .invokevirtual 291, 3, 183, 8, [8120]), (30, 0, .l2i, 1, 0, 0, []), (31, 0, .iadd, 1, 0, 0, []), (32, 0, .ireturn, 1, 0, 0, [])]
def m_Model_nameAt : List aT := [(0, [(0, 2), (1, 0), (2, 0)], [])]
def B_Model_nameAt_0 (X : Nat → List Int → AMem → Prop) (Q : Int → AMem → Prop) (x1 x2 : Int) (σ : AMem) : Prop :=
  T_Model_symbols [9790, x1] σ (fun r1 σ2 => T_Model_linkOf [9790, x1, r1] σ2 (fun r3 σ4 => T_Model_beginning [9790, x1, (w32 r3)] σ4 (fun r5 σ6 => am_r32 (x1 + (w32 r5)) ∧ T_Model_symbol [9790, x1, x2] σ6 (fun r7 σ8 => T_Model_num [9790, r7, 4] σ8 (fun r9 σ10 => am_r32 ((x1 + (w32 r5)) + (w32 r9)) ∧ Q ((x1 + (w32 r5)) + (w32 r9)) σ10)))))
def B_Model_nameAt : (Nat → List Int → AMem → Prop) → (Int → AMem → Prop) → Nat → List Int → AMem → Prop := fun X Q j v σ => am_sel [(am_v3 (fun t x1 x2 σ => if t = 9790 then B_Model_nameAt_0 X Q x1 x2 σ else False))] j v σ
def T_Model_nameAt : List Int → AMem → (Int → AMem → Prop) → Prop := am_T B_Model_nameAt
abbrev y_Model_nameAt : MethodName := ⟨"LinkHouseModel", "nameAt", "(II)I"⟩
def a_Model_nameAt : AC := (232, (y_Model_nameAt, prog_10_method_24_code, 3, (Option.some Jvm.ClassFile.FieldType.int)), [2, 0, 0], 0, false, { frames := 5, cells := 0, slots := 0, locals := 153 }, T_Model_nameAt)
set_option maxRecDepth 100000 in
theorem ms_Model_nameAt : am_MSp a_Model_nameAt := am_ms_v 9111 9 9110 108008 8 rfl (by decide +kernel)
abbrev k_Model_nameAt : List AC := [a_Model_symbols, a_Model_linkOf, a_Model_beginning, a_Model_symbol, a_Model_num]
set_option maxRecDepth 100000 in
theorem s_Model_nameAt : (am_chkR { frames := 5, cells := 0, slots := 0, locals := 153 } k_Model_nameAt && am_chkN c_Model_nameAt { frames := 5, cells := 0, slots := 0, locals := 153 } && c_Model_nameAt.all (am_chk "LinkHouseModel" prog_10_method_24_code 3 (Option.some Jvm.ClassFile.FieldType.int) k_Model_nameAt) && c_Model_nameAt.all (am_chkL m_Model_nameAt) && decide (m_Model_nameAt[0]? = some (0, am_argp 0 [2, 0, 0], [])) && decide (am_argn [2, 0, 0] ≤ 3)) = true := by decide +kernel
set_option maxHeartbeats 150000 in
set_option maxRecDepth 100000 in
theorem h_Model_nameAt : ∀ X Q j v σ, B_Model_nameAt X Q j v σ → am_at GR k_Model_nameAt c_Model_nameAt m_Model_nameAt X Q 28 j v σ := fun X Q => am_sel_all (P := fun j v σ => am_at GR k_Model_nameAt c_Model_nameAt m_Model_nameAt X Q 28 j v σ) (⟨(am_v3_of (fun t x1 x2 σ h => am_tk (fun e => by subst e; exact fun h => h) h)), trivial⟩)
set_option maxRecDepth 100000 in
theorem S_Model_nameAt (l : Launch) (w : AW) : am_S l w GR a_Model_nameAt := am_sound (rt := 0) (cal := k_Model_nameAt) 232 y_Model_nameAt prog_10_method_24_code 3 (Option.some Jvm.ClassFile.FieldType.int) [2, 0, 0] false { frames := 5, cells := 0, slots := 0, locals := 153 } B_Model_nameAt "LinkHouseModel" c_Model_nameAt m_Model_nameAt 28 ms_Model_nameAt (by decide +kernel) rfl rfl (am_cal (S_Model_symbols l w) (am_cal (S_Model_linkOf l w) (am_cal (S_Model_beginning l w) (am_cal (S_Model_symbol l w) (am_cal (S_Model_num l w) (fun _ h => absurd h List.not_mem_nil)))))) s_Model_nameAt h_Model_nameAt
set_option maxRecDepth 100000 in
theorem of_Model_nameAt {Q : Int → AMem → Prop} {x1 x2 : Int} {σ : AMem} (h : ∀ X : Nat → List Int → AMem → Prop, (∀ (x1 x2 : Int) (σ : AMem), B_Model_nameAt_0 X Q x1 x2 σ → X 0 [9790, x1, x2] σ) → X 0 [9790, x1, x2] σ) : T_Model_nameAt [9790, x1, x2] σ Q := fun X hX => h X (fun x1 x2 σ h => hX 0 [9790, x1, x2] σ h)
set_option maxRecDepth 100000 in
theorem iff_Model_nameAt {Q : Int → AMem → Prop} {X : Nat → List Int → AMem → Prop} {x1 x2 : Int} {σ : AMem} : T_Model_nameAt [9790, x1, x2] σ Q ↔ B_Model_nameAt_0 X Q x1 x2 σ := ⟨fun h => h (fun j v σ => B_Model_nameAt X Q j v σ) (fun _ _ _ q => q), fun h _ hX => hX 0 _ _ h⟩
def c_Model_nameEnd : List aE := [(0, 1, .aload_n 0, 1, 0, 0, []), (1, 0, .iload_n 1, 1, 0, 0, []), (2, 0, .iload_n 2, 1, 0, 0, []), (3, 0, .invokevirtual 332, 3, 232, 8, [9108]), (6, 0, .istore_n 3, 1, 0, 0, []), (7, 2, .aload_n 0, 1, 0, 0, []), (8, 0, .getfield 17, 3, 8, 6, [2, 0, 6195]), (11, 0, .iload_n 3, 1, 0, 0, []), (12, 0, .baload, 1, 2, 0, []), (13, 0, .ifCond .eq 9, 3, 0, 0, []), (16, 0, .iinc 3 1, 3, 0, 0, []), (19, 0, .goto (-12), 3, 0, 0, []), (22, 0, .iload_n 3, 1, 0, 0, []), (23, 0, .ireturn, 1, 0, 0, [])]
def m_Model_nameEnd : List aT := [(0, [(0, 2), (1, 0), (2, 0)], []), (7, [(0, 2), (3, 0)], [])]
def B_Model_nameEnd_0 (X : Nat → List Int → AMem → Prop) (Q : Int → AMem → Prop) (x1 x2 : Int) (σ : AMem) : Prop :=
  T_Model_nameAt [9790, x1, x2] σ (fun r1 σ2 => X 1 [9790, r1] σ2)
def B_Model_nameEnd_1 (X : Nat → List Int → AMem → Prop) (Q : Int → AMem → Prop) (x3 : Int) (σ : AMem) : Prop :=
  0 ≤ x3 ∧ x3 < 65536 ∧ (if (σ 9793 x3) = 0 then
  Q x3 σ
  else
  am_r32 (x3 + 1) ∧ X 1 [9790, (x3 + 1)] σ)
def B_Model_nameEnd : (Nat → List Int → AMem → Prop) → (Int → AMem → Prop) → Nat → List Int → AMem → Prop := fun X Q j v σ => am_sel [(am_v3 (fun t x1 x2 σ => if t = 9790 then B_Model_nameEnd_0 X Q x1 x2 σ else False)), (am_v2 (fun t x3 σ => if t = 9790 then B_Model_nameEnd_1 X Q x3 σ else False))] j v σ
def T_Model_nameEnd : List Int → AMem → (Int → AMem → Prop) → Prop := am_T B_Model_nameEnd
abbrev y_Model_nameEnd : MethodName := ⟨"LinkHouseModel", "nameEnd", "(II)I"⟩
def a_Model_nameEnd : AC := (233, (y_Model_nameEnd, prog_10_method_25_code, 4, (Option.some Jvm.ClassFile.FieldType.int)), [2, 0, 0], 0, false, { frames := 6, cells := 0, slots := 0, locals := 183 }, T_Model_nameEnd)
set_option maxRecDepth 100000 in
theorem ms_Model_nameEnd : am_MSp a_Model_nameEnd := am_ms_v 9115 9 9114 108009 8 rfl (by decide +kernel)
abbrev k_Model_nameEnd : List AC := [a_Model_nameAt]
set_option maxRecDepth 100000 in
theorem s_Model_nameEnd : (am_chkR { frames := 6, cells := 0, slots := 0, locals := 183 } k_Model_nameEnd && am_chkN c_Model_nameEnd { frames := 6, cells := 0, slots := 0, locals := 183 } && c_Model_nameEnd.all (am_chk "LinkHouseModel" prog_10_method_25_code 4 (Option.some Jvm.ClassFile.FieldType.int) k_Model_nameEnd) && c_Model_nameEnd.all (am_chkL m_Model_nameEnd) && decide (m_Model_nameEnd[0]? = some (0, am_argp 0 [2, 0, 0], [])) && decide (am_argn [2, 0, 0] ≤ 4)) = true := by decide +kernel
set_option maxHeartbeats 150000 in
set_option maxRecDepth 100000 in
theorem h_Model_nameEnd : ∀ X Q j v σ, B_Model_nameEnd X Q j v σ → am_at GR k_Model_nameEnd c_Model_nameEnd m_Model_nameEnd X Q 20 j v σ := fun X Q => am_sel_all (P := fun j v σ => am_at GR k_Model_nameEnd c_Model_nameEnd m_Model_nameEnd X Q 20 j v σ) (⟨(am_v3_of (fun t x1 x2 σ h => am_tk (fun e => by subst e; exact fun h => h) h)), ⟨(am_v2_of (fun t x3 σ h => am_tk (fun e => by subst e; exact fun h => h) h)), trivial⟩⟩)
set_option maxRecDepth 100000 in
theorem S_Model_nameEnd (l : Launch) (w : AW) : am_S l w GR a_Model_nameEnd := am_sound (rt := 0) (cal := k_Model_nameEnd) 233 y_Model_nameEnd prog_10_method_25_code 4 (Option.some Jvm.ClassFile.FieldType.int) [2, 0, 0] false { frames := 6, cells := 0, slots := 0, locals := 183 } B_Model_nameEnd "LinkHouseModel" c_Model_nameEnd m_Model_nameEnd 20 ms_Model_nameEnd (by decide +kernel) rfl rfl (am_cal (S_Model_nameAt l w) (fun _ h => absurd h List.not_mem_nil)) s_Model_nameEnd h_Model_nameEnd
set_option maxRecDepth 100000 in
theorem of_Model_nameEnd {Q : Int → AMem → Prop} {x1 x2 : Int} {σ : AMem} (h : ∀ X : Nat → List Int → AMem → Prop, (∀ (x1 x2 : Int) (σ : AMem), B_Model_nameEnd_0 X Q x1 x2 σ → X 0 [9790, x1, x2] σ) → (∀ (x3 : Int) (σ : AMem), B_Model_nameEnd_1 X Q x3 σ → X 1 [9790, x3] σ) → X 0 [9790, x1, x2] σ) : T_Model_nameEnd [9790, x1, x2] σ Q := fun X hX => h X (fun x1 x2 σ h => hX 0 [9790, x1, x2] σ h) (fun x3 σ h => hX 1 [9790, x3] σ h)
def c_Model_nameOf : List aE := [(0, 1, .aload_n 0, 1, 0, 0, []), (1, 0, .aload_n 0, 1, 0, 0, []), (2, 0, .getfield 17, 3, 8, 6, [2, 0, 6195]), (5, 0, .aload_n 0, 1, 0, 0, []), (6, 0, .iload_n 1, 1, 0, 0, []), (7, 0, .iload_n 2, 1, 0, 0, []), (8, 0, .invokevirtual 332, 3, 232, 8, [9108]), (11, 0, .aload_n 0, 1, 0, 0, []), (12, 0, .iload_n 1, 1, 0, 0, []), (13, 0, .iload_n 2, 1, 0, 0, []), (14, 0, .invokevirtual 476, 3, 233, 8, [9112]), (17, 0, .invokevirtual 479, 3, 229, 8, [9088]), (20, 0, .ireturn, 1, 0, 0, [])]
def m_Model_nameOf : List aT := [(0, [(0, 2), (1, 0), (2, 0)], [])]
def B_Model_nameOf_0 (X : Nat → List Int → AMem → Prop) (Q : Int → AMem → Prop) (x1 x2 : Int) (σ : AMem) : Prop :=
  T_Model_nameAt [9790, x1, x2] σ (fun r1 σ2 => T_Model_nameEnd [9790, x1, x2] σ2 (fun r3 σ4 => T_Model_find [9790, 9793, r1, r3] σ4 (fun r5 σ6 => Q r5 σ6)))
def B_Model_nameOf : (Nat → List Int → AMem → Prop) → (Int → AMem → Prop) → Nat → List Int → AMem → Prop := fun X Q j v σ => am_sel [(am_v3 (fun t x1 x2 σ => if t = 9790 then B_Model_nameOf_0 X Q x1 x2 σ else False))] j v σ
def T_Model_nameOf : List Int → AMem → (Int → AMem → Prop) → Prop := am_T B_Model_nameOf
abbrev y_Model_nameOf : MethodName := ⟨"LinkHouseModel", "nameOf", "(II)I"⟩
def a_Model_nameOf : AC := (234, (y_Model_nameOf, prog_10_method_50_code, 3, (Option.some Jvm.ClassFile.FieldType.int)), [2, 0, 0], 0, false, { frames := 7, cells := 0, slots := 0, locals := 214 }, T_Model_nameOf)
set_option maxRecDepth 100000 in
theorem ms_Model_nameOf : am_MSp a_Model_nameOf := am_ms_v 9107 9 9106 108007 8 rfl (by decide +kernel)
abbrev k_Model_nameOf : List AC := [a_Model_nameAt, a_Model_nameEnd, a_Model_find]
set_option maxRecDepth 100000 in
theorem s_Model_nameOf : (am_chkR { frames := 7, cells := 0, slots := 0, locals := 214 } k_Model_nameOf && am_chkN c_Model_nameOf { frames := 7, cells := 0, slots := 0, locals := 214 } && c_Model_nameOf.all (am_chk "LinkHouseModel" prog_10_method_50_code 3 (Option.some Jvm.ClassFile.FieldType.int) k_Model_nameOf) && c_Model_nameOf.all (am_chkL m_Model_nameOf) && decide (m_Model_nameOf[0]? = some (0, am_argp 0 [2, 0, 0], [])) && decide (am_argn [2, 0, 0] ≤ 3)) = true := by decide +kernel
set_option maxHeartbeats 150000 in
set_option maxRecDepth 100000 in
theorem h_Model_nameOf : ∀ X Q j v σ, B_Model_nameOf X Q j v σ → am_at GR k_Model_nameOf c_Model_nameOf m_Model_nameOf X Q 20 j v σ := fun X Q => am_sel_all (P := fun j v σ => am_at GR k_Model_nameOf c_Model_nameOf m_Model_nameOf X Q 20 j v σ) (⟨(am_v3_of (fun t x1 x2 σ h => am_tk (fun e => by subst e; exact fun h => h) h)), trivial⟩)
set_option maxRecDepth 100000 in
theorem S_Model_nameOf (l : Launch) (w : AW) : am_S l w GR a_Model_nameOf := am_sound (rt := 0) (cal := k_Model_nameOf) 234 y_Model_nameOf prog_10_method_50_code 3 (Option.some Jvm.ClassFile.FieldType.int) [2, 0, 0] false { frames := 7, cells := 0, slots := 0, locals := 214 } B_Model_nameOf "LinkHouseModel" c_Model_nameOf m_Model_nameOf 20 ms_Model_nameOf (by decide +kernel) rfl rfl (am_cal (S_Model_nameAt l w) (am_cal (S_Model_nameEnd l w) (am_cal (S_Model_find l w) (fun _ h => absurd h List.not_mem_nil)))) s_Model_nameOf h_Model_nameOf
set_option maxRecDepth 100000 in
theorem of_Model_nameOf {Q : Int → AMem → Prop} {x1 x2 : Int} {σ : AMem} (h : ∀ X : Nat → List Int → AMem → Prop, (∀ (x1 x2 : Int) (σ : AMem), B_Model_nameOf_0 X Q x1 x2 σ → X 0 [9790, x1, x2] σ) → X 0 [9790, x1, x2] σ) : T_Model_nameOf [9790, x1, x2] σ Q := fun X hX => h X (fun x1 x2 σ h => hX 0 [9790, x1, x2] σ h)
set_option maxRecDepth 100000 in
theorem iff_Model_nameOf {Q : Int → AMem → Prop} {X : Nat → List Int → AMem → Prop} {x1 x2 : Int} {σ : AMem} : T_Model_nameOf [9790, x1, x2] σ Q ↔ B_Model_nameOf_0 X Q x1 x2 σ := ⟨fun h => h (fun j v σ => B_Model_nameOf X Q j v σ) (fun _ _ _ q => q), fun h _ hX => hX 0 _ _ h⟩
def c_Model_helps : List aE := [(0, 1, .aload_n 0, 1, 0, 0, []), (1, 0, .getfield 27, 3, 8, 9, [2, 0, 6198]), (4, 0, .iload_n 1, 1, 0, 0, []), (5, 0, .iaload, 1, 0, 0, []), (6, 0, .istore_n 2, 1, 0, 0, []), (7, 0, .iconst 1, 1, 0, 0, []), (8, 0, .istore_n 3, 1, 0, 0, []), (9, 2, .iload_n 3, 1, 0, 0, []), (10, 0, .aload_n 0, 1, 0, 0, []), (11, 0, .iload_n 2, 1, 0, 0, []), (12, 0, .invokevirtual 366, 3, 198, 8, [8197]), (15, 0, .if_icmp .ge 66, 3, 0, 0, []), (18, 0, .aload_n 0, 1, 0, 0, []), (19, 0, .iload_n 2, 1, 0, 0, []), (20, 0, .iload_n 3, 1, 0, 0, []), (21, 0, .invokevirtual 375, 3, 201, 8, [8213]), (24, 0, .ifCond .eq 51, 3, 0, 0, []), (27, 0, .aload_n 0, 1, 0, 0, []), (28, 0, .iload_n 2, 1, 0, 0, []), (29, 0, .iload_n 3, 1, 0, 0, []), (30, 0, .invokevirtual 372, 3, 200, 8, [8205]), (33, 0, .ifCond .ne 6, 3, 0, 0, []), (36, 0, .goto 39, 3, 0, 0, []), (39, 0, .aload_n 0, 1, 0, 0, []), (40, 0, .iload_n 2, 1, 0, 0, []), (41, 0, .iload_n 3, 1, 0, 0, []), (42, 0, .invokevirtual 541, 3, 234, 8, [9104]), (45, 0, .istore 4, 2, 0, 0, []), (47, 0, .iload 4, 2, 0, 0, []), (49, 0, .ifCond .lt 26, 3, 0, 0, []), (52, 0, .aload_n 0, 1, 0, 0, []), (53, 0, .getfield 75, 3, 8, 28, [2, 0, 6217]), (56, 0, .iload 4, 2, 0, 0, []), (58, 0, .baload, 1, 3, 0, []), (59, 0, .ifCond .eq 16, 3, 0, 0, []), (62, 0, .aload_n 0, 1, 0, 0, []), (63, 0, .getfield 60, 3, 8, 23, [2, 0, 6212]), (66, 0, .iload 4, 2, 0, 0, []), (68, 0, .iaload, 1, 0, 0, []), (69, 0, .ifCond .ne 6, 3, 0, 0, []), (72, 0, .iload 4, 2, 0, 0, []), (74, 0, .ireturn, 1, 0, 0, []), (75, 3, .iinc 3 1, 3, 0, 0, []), (78, 0, .goto (-69), 3, 0, 0, []), (81, 0, .iconst (-1), 1, 0, 0, []), (82, 0, .ireturn, 1, 0, 0, [])]
def m_Model_helps : List aT := [(0, [(0, 2), (1, 0)], []), (9, [(0, 2), (2, 0), (3, 0)], []), (75, [(0, 2), (2, 0), (3, 0)], [])]
def B_Model_helps_0 (X : Nat → List Int → AMem → Prop) (Q : Int → AMem → Prop) (x1 : Int) (σ : AMem) : Prop :=
  0 ≤ x1 ∧ x1 < 64 ∧ X 1 [9790, (σ 9796 x1), 1] σ
def B_Model_helps_1 (X : Nat → List Int → AMem → Prop) (Q : Int → AMem → Prop) (x2 x3 : Int) (σ : AMem) : Prop :=
  T_Model_symbolMany [9790, x2] σ (fun r1 σ2 => (if x3 < r1 then
  T_Model_bind [9790, x2, x3] σ2 (fun r3 σ4 => (if r3 = 0 then
    X 2 [9790, x2, x3] σ4
    else
    T_Model_where [9790, x2, x3] σ4 (fun r5 σ6 => (if r5 = 0 then
      X 2 [9790, x2, x3] σ6
      else
      T_Model_nameOf [9790, x2, x3] σ6 (fun r7 σ8 => (if r7 < 0 then
        X 2 [9790, x2, x3] σ8
        else
        0 ≤ r7 ∧ r7 < 4096 ∧ (if (σ8 9810 r7) = 0 then
          X 2 [9790, x2, x3] σ8
          else
          0 ≤ r7 ∧ r7 < 4096 ∧ (if (σ8 9805 r7) = 0 then
            Q r7 σ8
            else
            X 2 [9790, x2, x3] σ8))))))))
  else
  Q (-1) σ2))
def B_Model_helps_2 (X : Nat → List Int → AMem → Prop) (Q : Int → AMem → Prop) (x2 x3 : Int) (σ : AMem) : Prop :=
  am_r32 (x3 + 1) ∧ X 1 [9790, x2, (x3 + 1)] σ
def B_Model_helps : (Nat → List Int → AMem → Prop) → (Int → AMem → Prop) → Nat → List Int → AMem → Prop := fun X Q j v σ => am_sel [(am_v2 (fun t x1 σ => if t = 9790 then B_Model_helps_0 X Q x1 σ else False)), (am_v3 (fun t x2 x3 σ => if t = 9790 then B_Model_helps_1 X Q x2 x3 σ else False)), (am_v3 (fun t x2 x3 σ => if t = 9790 then B_Model_helps_2 X Q x2 x3 σ else False))] j v σ
def T_Model_helps : List Int → AMem → (Int → AMem → Prop) → Prop := am_T B_Model_helps
abbrev y_Model_helps : MethodName := ⟨"LinkHouseModel", "helps", "(I)I"⟩
def a_Model_helps : AC := (235, (y_Model_helps, prog_10_method_68_code, 5, (Option.some Jvm.ClassFile.FieldType.int)), [2, 0], 0, false, { frames := 8, cells := 0, slots := 0, locals := 244 }, T_Model_helps)
set_option maxRecDepth 100000 in
theorem ms_Model_helps : am_MSp a_Model_helps := am_ms_v 9103 9 9102 108006 8 rfl (by decide +kernel)
abbrev k_Model_helps : List AC := [a_Model_symbolMany, a_Model_bind, a_Model_where, a_Model_nameOf]
set_option maxRecDepth 100000 in
theorem s_Model_helps : (am_chkR { frames := 8, cells := 0, slots := 0, locals := 244 } k_Model_helps && am_chkN c_Model_helps { frames := 8, cells := 0, slots := 0, locals := 244 } && c_Model_helps.all (am_chk "LinkHouseModel" prog_10_method_68_code 5 (Option.some Jvm.ClassFile.FieldType.int) k_Model_helps) && c_Model_helps.all (am_chkL m_Model_helps) && decide (m_Model_helps[0]? = some (0, am_argp 0 [2, 0], [])) && decide (am_argn [2, 0] ≤ 5)) = true := by decide +kernel
set_option maxHeartbeats 150000 in
set_option maxRecDepth 100000 in
theorem h_Model_helps : ∀ X Q j v σ, B_Model_helps X Q j v σ → am_at GR k_Model_helps c_Model_helps m_Model_helps X Q 51 j v σ := fun X Q => am_sel_all (P := fun j v σ => am_at GR k_Model_helps c_Model_helps m_Model_helps X Q 51 j v σ) (⟨(am_v2_of (fun t x1 σ h => am_tk (fun e => by subst e; exact fun h => h) h)), ⟨(am_v3_of (fun t x2 x3 σ h => am_tk (fun e => by subst e; exact fun h => h) h)), ⟨(am_v3_of (fun t x2 x3 σ h => am_tk (fun e => by subst e; exact fun h => h) h)), trivial⟩⟩⟩)
set_option maxRecDepth 100000 in
theorem S_Model_helps (l : Launch) (w : AW) : am_S l w GR a_Model_helps := am_sound (rt := 0) (cal := k_Model_helps) 235 y_Model_helps prog_10_method_68_code 5 (Option.some Jvm.ClassFile.FieldType.int) [2, 0] false { frames := 8, cells := 0, slots := 0, locals := 244 } B_Model_helps "LinkHouseModel" c_Model_helps m_Model_helps 51 ms_Model_helps (by decide +kernel) rfl rfl (am_cal (S_Model_symbolMany l w) (am_cal (S_Model_bind l w) (am_cal (S_Model_where l w) (am_cal (S_Model_nameOf l w) (fun _ h => absurd h List.not_mem_nil))))) s_Model_helps h_Model_helps
set_option maxRecDepth 100000 in
theorem of_Model_helps {Q : Int → AMem → Prop} {x1 : Int} {σ : AMem} (h : ∀ X : Nat → List Int → AMem → Prop, (∀ (x1 : Int) (σ : AMem), B_Model_helps_0 X Q x1 σ → X 0 [9790, x1] σ) → (∀ (x2 x3 : Int) (σ : AMem), B_Model_helps_1 X Q x2 x3 σ → X 1 [9790, x2, x3] σ) → (∀ (x2 x3 : Int) (σ : AMem), B_Model_helps_2 X Q x2 x3 σ → X 2 [9790, x2, x3] σ) → X 0 [9790, x1] σ) : T_Model_helps [9790, x1] σ Q := fun X hX => h X (fun x1 σ h => hX 0 [9790, x1] σ h) (fun x2 x3 σ h => hX 1 [9790, x2, x3] σ h) (fun x2 x3 σ h => hX 2 [9790, x2, x3] σ h)
def c_Model_object : List aE := [(0, 1, .aload_n 0, 1, 0, 0, []), (1, 0, .getfield 27, 3, 8, 9, [2, 0, 6198]), (4, 0, .aload_n 0, 1, 0, 0, []), (5, 0, .getfield 44, 3, 8, 17, [2, 0, 6206]), (8, 0, .iload_n 1, 1, 0, 0, []), (9, 0, .iaload, 1, 0, 0, []), (10, 0, .iaload, 1, 0, 0, []), (11, 0, .ireturn, 1, 0, 0, [])]
def m_Model_object : List aT := [(0, [(0, 2), (1, 0)], [])]
def B_Model_object_0 (X : Nat → List Int → AMem → Prop) (Q : Int → AMem → Prop) (x1 : Int) (σ : AMem) : Prop :=
  0 ≤ x1 ∧ x1 < 64 ∧ 0 ≤ (σ 9800 x1) ∧ (σ 9800 x1) < 64 ∧ Q (σ 9796 (σ 9800 x1)) σ
def B_Model_object : (Nat → List Int → AMem → Prop) → (Int → AMem → Prop) → Nat → List Int → AMem → Prop := fun X Q j v σ => am_sel [(am_v2 (fun t x1 σ => if t = 9790 then B_Model_object_0 X Q x1 σ else False))] j v σ
def T_Model_object : List Int → AMem → (Int → AMem → Prop) → Prop := am_T B_Model_object
abbrev y_Model_object : MethodName := ⟨"LinkHouseModel", "object", "(I)I"⟩
def a_Model_object : AC := (236, (y_Model_object, prog_10_method_71_code, 2, (Option.some Jvm.ClassFile.FieldType.int)), [2, 0], 0, false, { frames := 0, cells := 0, slots := 0, locals := 0 }, T_Model_object)
set_option maxRecDepth 100000 in
theorem ms_Model_object : am_MSp a_Model_object := am_ms_v 9127 9 9126 108012 8 rfl (by decide +kernel)
abbrev k_Model_object : List AC := []
set_option maxRecDepth 100000 in
theorem s_Model_object : (am_chkR { frames := 0, cells := 0, slots := 0, locals := 0 } k_Model_object && am_chkN c_Model_object { frames := 0, cells := 0, slots := 0, locals := 0 } && c_Model_object.all (am_chk "LinkHouseModel" prog_10_method_71_code 2 (Option.some Jvm.ClassFile.FieldType.int) k_Model_object) && c_Model_object.all (am_chkL m_Model_object) && decide (m_Model_object[0]? = some (0, am_argp 0 [2, 0], [])) && decide (am_argn [2, 0] ≤ 2)) = true := by decide +kernel
set_option maxHeartbeats 150000 in
set_option maxRecDepth 100000 in
theorem h_Model_object : ∀ X Q j v σ, B_Model_object X Q j v σ → am_at GR k_Model_object c_Model_object m_Model_object X Q 20 j v σ := fun X Q => am_sel_all (P := fun j v σ => am_at GR k_Model_object c_Model_object m_Model_object X Q 20 j v σ) (⟨(am_v2_of (fun t x1 σ h => am_tk (fun e => by subst e; exact fun h => h) h)), trivial⟩)
set_option maxRecDepth 100000 in
theorem S_Model_object (l : Launch) (w : AW) : am_S l w GR a_Model_object := am_sound (rt := 0) (cal := k_Model_object) 236 y_Model_object prog_10_method_71_code 2 (Option.some Jvm.ClassFile.FieldType.int) [2, 0] false { frames := 0, cells := 0, slots := 0, locals := 0 } B_Model_object "LinkHouseModel" c_Model_object m_Model_object 20 ms_Model_object (by decide +kernel) rfl rfl (fun _ h => absurd h List.not_mem_nil) s_Model_object h_Model_object
set_option maxRecDepth 100000 in
theorem of_Model_object {Q : Int → AMem → Prop} {x1 : Int} {σ : AMem} (h : ∀ X : Nat → List Int → AMem → Prop, (∀ (x1 : Int) (σ : AMem), B_Model_object_0 X Q x1 σ → X 0 [9790, x1] σ) → X 0 [9790, x1] σ) : T_Model_object [9790, x1] σ Q := fun X hX => h X (fun x1 σ h => hX 0 [9790, x1] σ h)
set_option maxRecDepth 100000 in
theorem iff_Model_object {Q : Int → AMem → Prop} {X : Nat → List Int → AMem → Prop} {x1 : Int} {σ : AMem} : T_Model_object [9790, x1] σ Q ↔ B_Model_object_0 X Q x1 σ := ⟨fun h => h (fun j v σ => B_Model_object X Q j v σ) (fun _ _ _ q => q), fun h _ hX => hX 0 _ _ h⟩
def c_Model_isAgain : List aE := [(0, 1, .aload_n 0, 1, 0, 0, []), (1, 0, .iload_n 1, 1, 0, 0, []), (2, 0, .aload_n 0, 1, 0, 0, []), (3, 0, .iload_n 1, 1, 0, 0, []), (4, 0, .iload_n 2, 1, 0, 0, []), (5, 0, .invokevirtual 408, 3, 207, 8, [9000]), (8, 0, .l2i, 1, 0, 0, []), (9, 0, .invokevirtual 332, 3, 232, 8, [9108]), (12, 0, .istore_n 3, 1, 0, 0, []), (13, 0, .aload_n 0, 1, 0, 0, []), (14, 0, .iload_n 1, 1, 0, 0, []), (15, 0, .aload_n 0, 1, 0, 0, []), (16, 0, .iload_n 1, 1, 0, 0, []), (17, 0, .iload_n 2, 1, 0, 0, []), (18, 0, .invokevirtual 408, 3, 207, 8, [9000]), (21, 0, .l2i, 1, 0, 0, []), (22, 0, .invokevirtual 476, 3, 233, 8, [9112]), (25, 0, .istore 4, 2, 0, 0, []), (27, 0, .iconst 0, 1, 0, 0, []), (28, 0, .istore 5, 2, 0, 0, []), (30, 2, .iload 5, 2, 0, 0, []), (32, 0, .aload_n 0, 1, 0, 0, []), (33, 0, .getfield 522, 3, 8, 70, [0, 0, 7019]), (36, 0, .if_icmp .ge 102, 3, 0, 0, []), (39, 0, .aload_n 0, 1, 0, 0, []), (40, 0, .getfield 178, 3, 8, 72, [2, 0, 7021]), (43, 0, .iload 5, 2, 0, 0, []), (45, 0, .iaload, 1, 0, 0, []), (46, 0, .aload_n 0, 1, 0, 0, []), (47, 0, .getfield 175, 3, 8, 71, [2, 0, 7020]), (50, 0, .iload 5, 2, 0, 0, []), (52, 0, .iaload, 1, 0, 0, []), (53, 0, .isub, 1, 0, 0, []), (54, 0, .iload 4, 2, 0, 0, []), (56, 0, .iload_n 3, 1, 0, 0, []), (57, 0, .isub, 1, 0, 0, []), (58, 0, .if_icmp .ne 7, 3, 0, 0, []), (61, 0, .iconst 1, 1, 0, 0, []), (62, 0, .goto 4, 3, 0, 0, []), (65, 0, .iconst 0, 1, 0, 0, []), (66, 3, .istore 6, 2, 0, 0, []), (68, 0, .iconst 0, 1, 0, 0, []), (69, 0, .istore 7, 2, 0, 0, []), (71, 4, .iload 7, 2, 0, 0, []), (73, 0, .iload 4, 2, 0, 0, []), (75, 0, .iload_n 3, 1, 0, 0, []), (76, 0, .isub, 1, 0, 0, []), (77, 0, .if_icmp .ge 48, 3, 0, 0, []), (80, 0, .iload 6, 2, 0, 0, []), (82, 0, .ifCond .eq 43, 3, 0, 0, []), (85, 0, .aload_n 0, 1, 0, 0, []), (86, 0, .getfield 17, 3, 8, 6, [2, 0, 6195]), (89, 0, .aload_n 0, 1, 0, 0, []), (90, 0, .getfield 175, 3, 8, 71, [2, 0, 7020]), (93, 0, .iload 5, 2, 0, 0, []), (95, 0, .iaload, 1, 0, 0, []), (96, 0, .iload 7, 2, 0, 0, []), (98, 0, .iadd, 1, 0, 0, []), (99, 0, .baload, 1, 2, 0, []), (100, 0, .aload_n 0, 1, 0, 0, []), (101, 0, .getfield 17, 3, 8, 6, [2, 0, 6195]), (104, 0, .iload_n 3, 1, 0, 0, []), (105, 0, .iload 7, 2, 0, 0, []), (107, 0, .iadd, 1, 0, 0, []), (108, 0, .baload, 1, 2, 0, []), (109, 0, .if_icmp .ne 7, 3, 0, 0, []), (112, 0, .iconst 1, 1, 0, 0, []), (113, 0, .goto 4, 3, 0, 0, []), (116, 0, .iconst 0, 1, 0, 0, []), (117, 5, .istore 6, 2, 0, 0, []), (119, 0, .iinc 7 1, 3, 0, 0, []), (122, 0, .goto (-51), 3, 0, 0, []), (125, 6, .iload 6, 2, 0, 0, []), (127, 0, .ifCond .eq 5, 3, 0, 0, []), (130, 0, .iconst 1, 1, 0, 0, []), (131, 0, .ireturn, 1, 1, 0, []), (132, 0, .iinc 5 1, 3, 0, 0, []), (135, 0, .goto (-105), 3, 0, 0, []), (138, 0, .aload_n 0, 1, 0, 0, []), (139, 0, .getfield 175, 3, 8, 71, [2, 0, 7020]), (142, 0, .aload_n 0, 1, 0, 0, []), (143, 0, .getfield 522, 3, 8, 70, [0, 0, 7019]), (146, 0, .iload_n 3, 1, 0, 0, []), (147, 0, .iastore, 1, 0, 0, []), (148, 0, .aload_n 0, 1, 0, 0, []), (149, 0, .getfield 178, 3, 8, 72, [2, 0, 7021]), (152, 0, .aload_n 0, 1, 0, 0, []), (153, 0, .getfield 522, 3, 8, 70, [0, 0, 7019]), (156, 0, .iload 4, 2, 0, 0, []), (158, 0, .iastore, 1, 0, 0, []), (159, 0, .aload_n 0, 1, 0, 0, []), (160, 0, .dup, 1, 0, 0, []), (161, 0, .getfield 522, 3, 8, 70, [0, 0, 7019]), (164, 0, .iconst 1, 1, 0, 0, []), (165, 0, .iadd, 1, 0, 0, []), (166, 0, .putfield 522, 3, 8, 70, [0, 0, 7019]), (169, 0, .iconst 0, 1, 0, 0, []), (170, 0, .ireturn, 1, 1, 0, [])]
def m_Model_isAgain : List aT := [(0, [(0, 2), (1, 0), (2, 0)], []), (30, [(0, 2), (3, 0), (4, 0), (5, 0)], []), (66, [(0, 2), (3, 0), (4, 0), (5, 0)], [0]), (71, [(0, 2), (3, 0), (4, 0), (5, 0), (6, 0), (7, 0)], []), (117, [(0, 2), (3, 0), (4, 0), (5, 0), (7, 0)], [0]), (125, [(0, 2), (3, 0), (4, 0), (5, 0), (6, 0)], [])]
def B_Model_isAgain_0 (X : Nat → List Int → AMem → Prop) (Q : Int → AMem → Prop) (x1 x2 : Int) (σ : AMem) : Prop :=
  T_Model_info [9790, x1, x2] σ (fun r1 σ2 => T_Model_nameAt [9790, x1, (w32 r1)] σ2 (fun r3 σ4 => T_Model_info [9790, x1, x2] σ4 (fun r5 σ6 => T_Model_nameEnd [9790, x1, (w32 r5)] σ6 (fun r7 σ8 => X 1 [9790, r3, r7, 0] σ8))))
def B_Model_isAgain_1 (X : Nat → List Int → AMem → Prop) (Q : Int → AMem → Prop) (x3 x4 x5 : Int) (σ : AMem) : Prop :=
  (if x5 < (σ 9790 70) then
  0 ≤ x5 ∧ x5 < 1536 ∧ 0 ≤ x5 ∧ x5 < 1536 ∧ am_r32 ((σ 9844 x5) - (σ 9843 x5)) ∧ am_r32 (x4 - x3) ∧ (if ((σ 9844 x5) - (σ 9843 x5)) = (x4 - x3) then
    X 2 [9790, x3, x4, x5, 1] σ
    else
    X 2 [9790, x3, x4, x5, 0] σ)
  else
  0 ≤ (σ 9790 70) ∧ (σ 9790 70) < 1536 ∧ am_let (am_upd σ 9843 (σ 9790 70) x3) (fun σ1 => 0 ≤ (σ1 9790 70) ∧ (σ1 9790 70) < 1536 ∧ am_let (am_upd σ1 9844 (σ1 9790 70) x4) (fun σ2 => am_r32 ((σ2 9790 70) + 1) ∧ am_let (am_upd σ2 9790 70 ((σ2 9790 70) + 1)) (fun σ3 => Q 0 σ3))))
def B_Model_isAgain_2 (X : Nat → List Int → AMem → Prop) (Q : Int → AMem → Prop) (x3 x4 x5 s0 : Int) (σ : AMem) : Prop :=
  X 3 [9790, x3, x4, x5, s0, 0] σ
def B_Model_isAgain_3 (X : Nat → List Int → AMem → Prop) (Q : Int → AMem → Prop) (x3 x4 x5 x6 x7 : Int) (σ : AMem) : Prop :=
  am_r32 (x4 - x3) ∧ (if x7 < (x4 - x3) then
  (if x6 = 0 then
    X 5 [9790, x3, x4, x5, x6] σ
    else
    0 ≤ x5 ∧ x5 < 1536 ∧ am_r32 ((σ 9843 x5) + x7) ∧ 0 ≤ ((σ 9843 x5) + x7) ∧ ((σ 9843 x5) + x7) < 65536 ∧ am_r32 (x3 + x7) ∧ 0 ≤ (x3 + x7) ∧ (x3 + x7) < 65536 ∧ (if (σ 9793 ((σ 9843 x5) + x7)) = (σ 9793 (x3 + x7)) then
      X 4 [9790, x3, x4, x5, x7, 1] σ
      else
      X 4 [9790, x3, x4, x5, x7, 0] σ))
  else
  X 5 [9790, x3, x4, x5, x6] σ)
def B_Model_isAgain_4 (X : Nat → List Int → AMem → Prop) (Q : Int → AMem → Prop) (x3 x4 x5 x7 s0 : Int) (σ : AMem) : Prop :=
  am_r32 (x7 + 1) ∧ X 3 [9790, x3, x4, x5, s0, (x7 + 1)] σ
def B_Model_isAgain_5 (X : Nat → List Int → AMem → Prop) (Q : Int → AMem → Prop) (x3 x4 x5 x6 : Int) (σ : AMem) : Prop :=
  (if x6 = 0 then
  am_r32 (x5 + 1) ∧ X 1 [9790, x3, x4, (x5 + 1)] σ
  else
  Q 1 σ)
def B_Model_isAgain : (Nat → List Int → AMem → Prop) → (Int → AMem → Prop) → Nat → List Int → AMem → Prop := fun X Q j v σ => am_sel [(am_v3 (fun t x1 x2 σ => if t = 9790 then B_Model_isAgain_0 X Q x1 x2 σ else False)), (am_v4 (fun t x3 x4 x5 σ => if t = 9790 then B_Model_isAgain_1 X Q x3 x4 x5 σ else False)), (am_v5 (fun t x3 x4 x5 s0 σ => if t = 9790 then B_Model_isAgain_2 X Q x3 x4 x5 s0 σ else False)), (am_v6 (fun t x3 x4 x5 x6 x7 σ => if t = 9790 then B_Model_isAgain_3 X Q x3 x4 x5 x6 x7 σ else False)), (am_v6 (fun t x3 x4 x5 x7 s0 σ => if t = 9790 then B_Model_isAgain_4 X Q x3 x4 x5 x7 s0 σ else False)), (am_v5 (fun t x3 x4 x5 x6 σ => if t = 9790 then B_Model_isAgain_5 X Q x3 x4 x5 x6 σ else False))] j v σ
def T_Model_isAgain : List Int → AMem → (Int → AMem → Prop) → Prop := am_T B_Model_isAgain
abbrev y_Model_isAgain : MethodName := ⟨"LinkHouseModel", "isAgain", "(II)Z"⟩
def a_Model_isAgain : AC := (237, (y_Model_isAgain, prog_10_method_65_code, 8, (Option.some Jvm.ClassFile.FieldType.boolean)), [2, 0, 0], 0, false, { frames := 7, cells := 0, slots := 0, locals := 214 }, T_Model_isAgain)
set_option maxRecDepth 100000 in
theorem ms_Model_isAgain : am_MSp a_Model_isAgain := am_ms_v 9131 9 9130 108013 8 rfl (by decide +kernel)
abbrev k_Model_isAgain : List AC := [a_Model_info, a_Model_nameAt, a_Model_nameEnd]
set_option maxRecDepth 100000 in
theorem s_Model_isAgain : (am_chkR { frames := 7, cells := 0, slots := 0, locals := 214 } k_Model_isAgain && am_chkN c_Model_isAgain { frames := 7, cells := 0, slots := 0, locals := 214 } && c_Model_isAgain.all (am_chk "LinkHouseModel" prog_10_method_65_code 8 (Option.some Jvm.ClassFile.FieldType.boolean) k_Model_isAgain) && c_Model_isAgain.all (am_chkL m_Model_isAgain) && decide (m_Model_isAgain[0]? = some (0, am_argp 0 [2, 0, 0], [])) && decide (am_argn [2, 0, 0] ≤ 8)) = true := by decide +kernel
set_option maxHeartbeats 150000 in
set_option maxRecDepth 100000 in
theorem h_Model_isAgain : ∀ X Q j v σ, B_Model_isAgain X Q j v σ → am_at GR k_Model_isAgain c_Model_isAgain m_Model_isAgain X Q 103 j v σ := fun X Q => am_sel_all (P := fun j v σ => am_at GR k_Model_isAgain c_Model_isAgain m_Model_isAgain X Q 103 j v σ) (⟨(am_v3_of (fun t x1 x2 σ h => am_tk (fun e => by subst e; exact fun h => h) h)), ⟨(am_v4_of (fun t x3 x4 x5 σ h => am_tk (fun e => by subst e; exact fun h => h) h)), ⟨(am_v5_of (fun t x3 x4 x5 s0 σ h => am_tk (fun e => by subst e; exact fun h => h) h)), ⟨(am_v6_of (fun t x3 x4 x5 x6 x7 σ h => am_tk (fun e => by subst e; exact fun h => h) h)), ⟨(am_v6_of (fun t x3 x4 x5 x7 s0 σ h => am_tk (fun e => by subst e; exact fun h => h) h)), ⟨(am_v5_of (fun t x3 x4 x5 x6 σ h => am_tk (fun e => by subst e; exact fun h => h) h)), trivial⟩⟩⟩⟩⟩⟩)
set_option maxRecDepth 100000 in
theorem S_Model_isAgain (l : Launch) (w : AW) : am_S l w GR a_Model_isAgain := am_sound (rt := 0) (cal := k_Model_isAgain) 237 y_Model_isAgain prog_10_method_65_code 8 (Option.some Jvm.ClassFile.FieldType.boolean) [2, 0, 0] false { frames := 7, cells := 0, slots := 0, locals := 214 } B_Model_isAgain "LinkHouseModel" c_Model_isAgain m_Model_isAgain 103 ms_Model_isAgain (by decide +kernel) rfl rfl (am_cal (S_Model_info l w) (am_cal (S_Model_nameAt l w) (am_cal (S_Model_nameEnd l w) (fun _ h => absurd h List.not_mem_nil)))) s_Model_isAgain h_Model_isAgain
set_option maxRecDepth 100000 in
theorem of_Model_isAgain {Q : Int → AMem → Prop} {x1 x2 : Int} {σ : AMem} (h : ∀ X : Nat → List Int → AMem → Prop, (∀ (x1 x2 : Int) (σ : AMem), B_Model_isAgain_0 X Q x1 x2 σ → X 0 [9790, x1, x2] σ) → (∀ (x3 x4 x5 : Int) (σ : AMem), B_Model_isAgain_1 X Q x3 x4 x5 σ → X 1 [9790, x3, x4, x5] σ) → (∀ (x3 x4 x5 s0 : Int) (σ : AMem), B_Model_isAgain_2 X Q x3 x4 x5 s0 σ → X 2 [9790, x3, x4, x5, s0] σ) → (∀ (x3 x4 x5 x6 x7 : Int) (σ : AMem), B_Model_isAgain_3 X Q x3 x4 x5 x6 x7 σ → X 3 [9790, x3, x4, x5, x6, x7] σ) → (∀ (x3 x4 x5 x7 s0 : Int) (σ : AMem), B_Model_isAgain_4 X Q x3 x4 x5 x7 s0 σ → X 4 [9790, x3, x4, x5, x7, s0] σ) → (∀ (x3 x4 x5 x6 : Int) (σ : AMem), B_Model_isAgain_5 X Q x3 x4 x5 x6 σ → X 5 [9790, x3, x4, x5, x6] σ) → X 0 [9790, x1, x2] σ) : T_Model_isAgain [9790, x1, x2] σ Q := fun X hX => h X (fun x1 x2 σ h => hX 0 [9790, x1, x2] σ h) (fun x3 x4 x5 σ h => hX 1 [9790, x3, x4, x5] σ h) (fun x3 x4 x5 s0 σ h => hX 2 [9790, x3, x4, x5, s0] σ h) (fun x3 x4 x5 x6 x7 σ h => hX 3 [9790, x3, x4, x5, x6, x7] σ h) (fun x3 x4 x5 x7 s0 σ h => hX 4 [9790, x3, x4, x5, x7, s0] σ h) (fun x3 x4 x5 x6 σ h => hX 5 [9790, x3, x4, x5, x6] σ h)
def c_Model_dropGroups : List aE := [(0, 1, .aload_n 0, 1, 0, 0, []), (1, 0, .iload_n 1, 1, 0, 0, []), (2, 0, .invokevirtual 503, 3, 236, 8, [9124]), (5, 0, .istore_n 2, 1, 0, 0, []), (6, 0, .iconst 1, 1, 0, 0, []), (7, 0, .istore_n 3, 1, 0, 0, []), (8, 2, .iload_n 3, 1, 0, 0, []), (9, 0, .aload_n 0, 1, 0, 0, []), (10, 0, .iload_n 2, 1, 0, 0, []), (11, 0, .invokevirtual 313, 3, 185, 8, [8136]), (14, 0, .if_icmp .ge 98, 3, 0, 0, []), (17, 0, .aload_n 0, 1, 0, 0, []), (18, 0, .iload_n 2, 1, 0, 0, []), (19, 0, .iload_n 3, 1, 0, 0, []), (20, 0, .invokevirtual 435, 3, 215, 8, [9034]), (23, 0, .ifCond .eq 83, 3, 0, 0, []), (26, 0, .aload_n 0, 1, 0, 0, []), (27, 0, .iload_n 2, 1, 0, 0, []), (28, 0, .iload_n 3, 1, 0, 0, []), (29, 0, .iconst 0, 1, 0, 0, []), (30, 0, .invokevirtual 431, 3, 216, 8, [9043]), (33, 0, .lconst 1, 1, 0, 0, []), (34, 0, .lcmp, 1, 0, 0, []), (35, 0, .ifCond .ne 71, 3, 0, 0, []), (38, 0, .aload_n 0, 1, 0, 0, []), (39, 0, .iload_n 2, 1, 0, 0, []), (40, 0, .iload_n 3, 1, 0, 0, []), (41, 0, .invokevirtual 525, 3, 237, 8, [9128]), (44, 0, .ifCond .ne 6, 3, 0, 0, []), (47, 0, .goto 59, 3, 0, 0, []), (50, 0, .aload_n 0, 1, 0, 0, []), (51, 0, .dup, 1, 0, 0, []), (52, 0, .getfield 528, 3, 8, 69, [0, 0, 7018]), (55, 0, .iconst 1, 1, 0, 0, []), (56, 0, .iadd, 1, 0, 0, []), (57, 0, .putfield 528, 3, 8, 69, [0, 0, 7018]), (60, 0, .iconst 1, 1, 0, 0, []), (61, 0, .istore 4, 2, 0, 0, []), (63, 3, .iload 4, 2, 0, 0, []), (65, 0, .i2l, 1, 0, 0, []), (66, 0, .aload_n 0, 1, 0, 0, []), (67, 0, .iload_n 2, 1, 0, 0, []), (68, 0, .iload_n 3, 1, 0, 0, []), (69, 0, .invokevirtual 320, 3, 190, 8, [8160]), (72, 0, .ldc2_w 311, 3, 4, 0, [8239]), (75, 0, .ldiv, 1, 0, 0, []), (76, 0, .lcmp, 1, 0, 0, []), (77, 0, .ifCond .ge 29, 3, 0, 0, []), (80, 0, .aload_n 0, 1, 0, 0, []), (81, 0, .getfield 166, 3, 8, 65, [2, 0, 7014]), (84, 0, .bipush 24, 2, 0, 0, []), (86, 0, .iload_n 1, 1, 0, 0, []), (87, 0, .imul, 1, 0, 0, []), (88, 0, .aload_n 0, 1, 0, 0, []), (89, 0, .iload_n 2, 1, 0, 0, []), (90, 0, .iload_n 3, 1, 0, 0, []), (91, 0, .iload 4, 2, 0, 0, []), (93, 0, .invokevirtual 431, 3, 216, 8, [9043]), (96, 0, .l2i, 1, 0, 0, []), (97, 0, .iadd, 1, 0, 0, []), (98, 0, .iconst 1, 1, 0, 0, []), (99, 0, .bastore, 1, 3, 0, []), (100, 0, .iinc 4 1, 3, 0, 0, []), (103, 0, .goto (-40), 3, 0, 0, []), (106, 4, .iinc 3 1, 3, 0, 0, []), (109, 0, .goto (-101), 3, 0, 0, []), (112, 0, .return_, 1, 0, 0, [])]
def m_Model_dropGroups : List aT := [(0, [(0, 2), (1, 0)], []), (8, [(0, 2), (1, 0), (2, 0), (3, 0)], []), (63, [(0, 2), (1, 0), (2, 0), (3, 0), (4, 0)], []), (106, [(0, 2), (1, 0), (2, 0), (3, 0)], [])]
def B_Model_dropGroups_0 (X : Nat → List Int → AMem → Prop) (Q : Int → AMem → Prop) (x1 : Int) (σ : AMem) : Prop :=
  T_Model_object [9790, x1] σ (fun r1 σ2 => X 1 [9790, x1, r1, 1] σ2)
def B_Model_dropGroups_1 (X : Nat → List Int → AMem → Prop) (Q : Int → AMem → Prop) (x1 x2 x3 : Int) (σ : AMem) : Prop :=
  T_Model_sections [9790, x2] σ (fun r1 σ2 => (if x3 < r1 then
  T_Model_isGroup [9790, x2, x3] σ2 (fun r3 σ4 => (if r3 = 0 then
    X 3 [9790, x1, x2, x3] σ4
    else
    T_Model_groupNumber [9790, x2, x3, 0] σ4 (fun r5 σ6 => (if r5 = 1 then
      T_Model_isAgain [9790, x2, x3] σ6 (fun r7 σ8 => (if r7 = 0 then
        X 3 [9790, x1, x2, x3] σ8
        else
        am_r32 ((σ8 9790 69) + 1) ∧ am_let (am_upd σ8 9790 69 ((σ8 9790 69) + 1)) (fun σ9 => X 2 [9790, x1, x2, x3, 1] σ9)))
      else
      X 3 [9790, x1, x2, x3] σ6))))
  else
  Q 0 σ2))
def B_Model_dropGroups_2 (X : Nat → List Int → AMem → Prop) (Q : Int → AMem → Prop) (x1 x2 x3 x4 : Int) (σ : AMem) : Prop :=
  T_Model_size [9790, x2, x3] σ (fun r1 σ2 => (0 : Int) < 4 ∧ (if x4 < (r1.tdiv 4) then
  am_r32 (24 * x1) ∧ T_Model_groupNumber [9790, x2, x3, x4] σ2 (fun r3 σ4 => am_r32 ((24 * x1) + (w32 r3)) ∧ 0 ≤ ((24 * x1) + (w32 r3)) ∧ ((24 * x1) + (w32 r3)) < 1536 ∧ am_let (am_upd σ4 9840 ((24 * x1) + (w32 r3)) 1) (fun σ5 => am_r32 (x4 + 1) ∧ X 2 [9790, x1, x2, x3, (x4 + 1)] σ5))
  else
  X 3 [9790, x1, x2, x3] σ2))
def B_Model_dropGroups_3 (X : Nat → List Int → AMem → Prop) (Q : Int → AMem → Prop) (x1 x2 x3 : Int) (σ : AMem) : Prop :=
  am_r32 (x3 + 1) ∧ X 1 [9790, x1, x2, (x3 + 1)] σ
def B_Model_dropGroups : (Nat → List Int → AMem → Prop) → (Int → AMem → Prop) → Nat → List Int → AMem → Prop := fun X Q j v σ => am_sel [(am_v2 (fun t x1 σ => if t = 9790 then B_Model_dropGroups_0 X Q x1 σ else False)), (am_v4 (fun t x1 x2 x3 σ => if t = 9790 then B_Model_dropGroups_1 X Q x1 x2 x3 σ else False)), (am_v5 (fun t x1 x2 x3 x4 σ => if t = 9790 then B_Model_dropGroups_2 X Q x1 x2 x3 x4 σ else False)), (am_v4 (fun t x1 x2 x3 σ => if t = 9790 then B_Model_dropGroups_3 X Q x1 x2 x3 σ else False))] j v σ
def T_Model_dropGroups : List Int → AMem → (Int → AMem → Prop) → Prop := am_T B_Model_dropGroups
abbrev y_Model_dropGroups : MethodName := ⟨"LinkHouseModel", "dropGroups", "(I)V"⟩
def a_Model_dropGroups : AC := (238, (y_Model_dropGroups, prog_10_method_66_code, 5, (Option.none : Option Jvm.ClassFile.FieldType)), [2, 0], 3, false, { frames := 8, cells := 0, slots := 0, locals := 249 }, T_Model_dropGroups)
set_option maxRecDepth 100000 in
theorem ms_Model_dropGroups : am_MSp a_Model_dropGroups := am_ms_v 9123 9 9122 108011 8 rfl (by decide +kernel)
abbrev k_Model_dropGroups : List AC := [a_Model_object, a_Model_sections, a_Model_isGroup, a_Model_groupNumber, a_Model_isAgain, a_Model_size]
set_option maxRecDepth 100000 in
theorem s_Model_dropGroups : (am_chkR { frames := 8, cells := 0, slots := 0, locals := 249 } k_Model_dropGroups && am_chkN c_Model_dropGroups { frames := 8, cells := 0, slots := 0, locals := 249 } && c_Model_dropGroups.all (am_chk "LinkHouseModel" prog_10_method_66_code 5 (Option.none : Option Jvm.ClassFile.FieldType) k_Model_dropGroups) && c_Model_dropGroups.all (am_chkL m_Model_dropGroups) && decide (m_Model_dropGroups[0]? = some (0, am_argp 0 [2, 0], [])) && decide (am_argn [2, 0] ≤ 5)) = true := by decide +kernel
set_option maxHeartbeats 150000 in
set_option maxRecDepth 100000 in
theorem h_Model_dropGroups : ∀ X Q j v σ, B_Model_dropGroups X Q j v σ → am_at GR k_Model_dropGroups c_Model_dropGroups m_Model_dropGroups X Q 72 j v σ := fun X Q => am_sel_all (P := fun j v σ => am_at GR k_Model_dropGroups c_Model_dropGroups m_Model_dropGroups X Q 72 j v σ) (⟨(am_v2_of (fun t x1 σ h => am_tk (fun e => by subst e; exact fun h => h) h)), ⟨(am_v4_of (fun t x1 x2 x3 σ h => am_tk (fun e => by subst e; exact fun h => h) h)), ⟨(am_v5_of (fun t x1 x2 x3 x4 σ h => am_tk (fun e => by subst e; exact fun h => h) h)), ⟨(am_v4_of (fun t x1 x2 x3 σ h => am_tk (fun e => by subst e; exact fun h => h) h)), trivial⟩⟩⟩⟩)
set_option maxRecDepth 100000 in
theorem S_Model_dropGroups (l : Launch) (w : AW) : am_S l w GR a_Model_dropGroups := am_sound (rt := 3) (cal := k_Model_dropGroups) 238 y_Model_dropGroups prog_10_method_66_code 5 (Option.none : Option Jvm.ClassFile.FieldType) [2, 0] false { frames := 8, cells := 0, slots := 0, locals := 249 } B_Model_dropGroups "LinkHouseModel" c_Model_dropGroups m_Model_dropGroups 72 ms_Model_dropGroups (by decide +kernel) rfl rfl (am_cal (S_Model_object l w) (am_cal (S_Model_sections l w) (am_cal (S_Model_isGroup l w) (am_cal (S_Model_groupNumber l w) (am_cal (S_Model_isAgain l w) (am_cal (S_Model_size l w) (fun _ h => absurd h List.not_mem_nil))))))) s_Model_dropGroups h_Model_dropGroups
set_option maxRecDepth 100000 in
theorem of_Model_dropGroups {Q : Int → AMem → Prop} {x1 : Int} {σ : AMem} (h : ∀ X : Nat → List Int → AMem → Prop, (∀ (x1 : Int) (σ : AMem), B_Model_dropGroups_0 X Q x1 σ → X 0 [9790, x1] σ) → (∀ (x1 x2 x3 : Int) (σ : AMem), B_Model_dropGroups_1 X Q x1 x2 x3 σ → X 1 [9790, x1, x2, x3] σ) → (∀ (x1 x2 x3 x4 : Int) (σ : AMem), B_Model_dropGroups_2 X Q x1 x2 x3 x4 σ → X 2 [9790, x1, x2, x3, x4] σ) → (∀ (x1 x2 x3 : Int) (σ : AMem), B_Model_dropGroups_3 X Q x1 x2 x3 σ → X 3 [9790, x1, x2, x3] σ) → X 0 [9790, x1] σ) : T_Model_dropGroups [9790, x1] σ Q := fun X hX => h X (fun x1 σ h => hX 0 [9790, x1] σ h) (fun x1 x2 x3 σ h => hX 1 [9790, x1, x2, x3] σ h) (fun x1 x2 x3 x4 σ h => hX 2 [9790, x1, x2, x3, x4] σ h) (fun x1 x2 x3 σ h => hX 3 [9790, x1, x2, x3] σ h)
def c_Model_enter : List aE := [(0, 1, .aload_n 0, 1, 0, 0, []), (1, 0, .aload_n 0, 1, 0, 0, []), (2, 0, .getfield 17, 3, 8, 6, [2, 0, 6195]), (5, 0, .aload_n 0, 1, 0, 0, []), (6, 0, .iload_n 1, 1, 0, 0, []), (7, 0, .iload_n 2, 1, 0, 0, []), (8, 0, .invokevirtual 332, 3, 232, 8, [9108]), (11, 0, .aload_n 0, 1, 0, 0, []), (12, 0, .iload_n 1, 1, 0, 0, []), (13, 0, .iload_n 2, 1, 0, 0, []), (14, 0, .invokevirtual 476, 3, 233, 8, [9112]), (17, 0, .invokevirtual 483, 3, 230, 8, [9084]), (20, 0, .ireturn, 1, 0, 0, [])]
def m_Model_enter : List aT := [(0, [(0, 2), (1, 0), (2, 0)], [])]
def B_Model_enter_0 (X : Nat → List Int → AMem → Prop) (Q : Int → AMem → Prop) (x1 x2 : Int) (σ : AMem) : Prop :=
  T_Model_nameAt [9790, x1, x2] σ (fun r1 σ2 => T_Model_nameEnd [9790, x1, x2] σ2 (fun r3 σ4 => T_Model_entered [9790, 9793, r1, r3] σ4 (fun r5 σ6 => Q r5 σ6)))
def B_Model_enter : (Nat → List Int → AMem → Prop) → (Int → AMem → Prop) → Nat → List Int → AMem → Prop := fun X Q j v σ => am_sel [(am_v3 (fun t x1 x2 σ => if t = 9790 then B_Model_enter_0 X Q x1 x2 σ else False))] j v σ
def T_Model_enter : List Int → AMem → (Int → AMem → Prop) → Prop := am_T B_Model_enter
abbrev y_Model_enter : MethodName := ⟨"LinkHouseModel", "enter", "(II)I"⟩
def a_Model_enter : AC := (239, (y_Model_enter, prog_10_method_52_code, 3, (Option.some Jvm.ClassFile.FieldType.int)), [2, 0, 0], 0, false, { frames := 7, cells := 0, slots := 0, locals := 214 }, T_Model_enter)
set_option maxRecDepth 100000 in
theorem ms_Model_enter : am_MSp a_Model_enter := am_ms_v 9135 9 9134 108014 8 rfl (by decide +kernel)
abbrev k_Model_enter : List AC := [a_Model_nameAt, a_Model_nameEnd, a_Model_entered]
set_option maxRecDepth 100000 in
theorem s_Model_enter : (am_chkR { frames := 7, cells := 0, slots := 0, locals := 214 } k_Model_enter && am_chkN c_Model_enter { frames := 7, cells := 0, slots := 0, locals := 214 } && c_Model_enter.all (am_chk "LinkHouseModel" prog_10_method_52_code 3 (Option.some Jvm.ClassFile.FieldType.int) k_Model_enter) && c_Model_enter.all (am_chkL m_Model_enter) && decide (m_Model_enter[0]? = some (0, am_argp 0 [2, 0, 0], [])) && decide (am_argn [2, 0, 0] ≤ 3)) = true := by decide +kernel
set_option maxHeartbeats 150000 in
set_option maxRecDepth 100000 in
theorem h_Model_enter : ∀ X Q j v σ, B_Model_enter X Q j v σ → am_at GR k_Model_enter c_Model_enter m_Model_enter X Q 20 j v σ := fun X Q => am_sel_all (P := fun j v σ => am_at GR k_Model_enter c_Model_enter m_Model_enter X Q 20 j v σ) (⟨(am_v3_of (fun t x1 x2 σ h => am_tk (fun e => by subst e; exact fun h => h) h)), trivial⟩)
set_option maxRecDepth 100000 in
theorem S_Model_enter (l : Launch) (w : AW) : am_S l w GR a_Model_enter := am_sound (rt := 0) (cal := k_Model_enter) 239 y_Model_enter prog_10_method_52_code 3 (Option.some Jvm.ClassFile.FieldType.int) [2, 0, 0] false { frames := 7, cells := 0, slots := 0, locals := 214 } B_Model_enter "LinkHouseModel" c_Model_enter m_Model_enter 20 ms_Model_enter (by decide +kernel) rfl rfl (am_cal (S_Model_nameAt l w) (am_cal (S_Model_nameEnd l w) (am_cal (S_Model_entered l w) (fun _ h => absurd h List.not_mem_nil)))) s_Model_enter h_Model_enter
set_option maxRecDepth 100000 in
theorem of_Model_enter {Q : Int → AMem → Prop} {x1 x2 : Int} {σ : AMem} (h : ∀ X : Nat → List Int → AMem → Prop, (∀ (x1 x2 : Int) (σ : AMem), B_Model_enter_0 X Q x1 x2 σ → X 0 [9790, x1, x2] σ) → X 0 [9790, x1, x2] σ) : T_Model_enter [9790, x1, x2] σ Q := fun X hX => h X (fun x1 x2 σ h => hX 0 [9790, x1, x2] σ h)
set_option maxRecDepth 100000 in
theorem iff_Model_enter {Q : Int → AMem → Prop} {X : Nat → List Int → AMem → Prop} {x1 x2 : Int} {σ : AMem} : T_Model_enter [9790, x1, x2] σ Q ↔ B_Model_enter_0 X Q x1 x2 σ := ⟨fun h => h (fun j v σ => B_Model_enter X Q j v σ) (fun _ _ _ q => q), fun h _ hX => hX 0 _ _ h⟩
def c_Model_whereNow : List aE := [(0, 1, .aload_n 0, 1, 0, 0, []), (1, 0, .aload_n 0, 1, 0, 0, []), (2, 0, .iload_n 1, 1, 0, 0, []), (3, 0, .invokevirtual 503, 3, 236, 8, [9124]), (6, 0, .iload_n 2, 1, 0, 0, []), (7, 0, .invokevirtual 372, 3, 200, 8, [8205]), (10, 0, .istore_n 3, 1, 0, 0, []), (11, 0, .iload_n 3, 1, 0, 0, []), (12, 0, .ifCond .le 27, 3, 0, 0, []), (15, 0, .iload_n 3, 1, 0, 0, []), (16, 0, .bipush 24, 2, 0, 0, []), (18, 0, .if_icmp .ge 21, 3, 0, 0, []), (21, 0, .aload_n 0, 1, 0, 0, []), (22, 0, .getfield 166, 3, 8, 65, [2, 0, 7014]), (25, 0, .bipush 24, 2, 0, 0, []), (27, 0, .iload_n 1, 1, 0, 0, []), (28, 0, .imul, 1, 0, 0, []), (29, 0, .iload_n 3, 1, 0, 0, []), (30, 0, .iadd, 1, 0, 0, []), (31, 0, .baload, 1, 3, 0, []), (32, 0, .ifCond .eq 7, 3, 0, 0, []), (35, 0, .iconst 0, 1, 0, 0, []), (36, 0, .goto 4, 3, 0, 0, []), (39, 0, .iload_n 3, 1, 0, 0, []), (40, 0, .ireturn, 1, 0, 0, [])]
def m_Model_whereNow : List aT := [(0, [(0, 2), (1, 0), (2, 0)], [])]
def B_Model_whereNow_0 (X : Nat → List Int → AMem → Prop) (Q : Int → AMem → Prop) (x1 x2 : Int) (σ : AMem) : Prop :=
  T_Model_object [9790, x1] σ (fun r1 σ2 => T_Model_where [9790, r1, x2] σ2 (fun r3 σ4 => (if 0 < r3 then
  (if r3 < 24 then
    am_r32 (24 * x1) ∧ am_r32 ((24 * x1) + r3) ∧ 0 ≤ ((24 * x1) + r3) ∧ ((24 * x1) + r3) < 1536 ∧ (if (σ4 9840 ((24 * x1) + r3)) = 0 then
      Q r3 σ4
      else
      Q 0 σ4)
    else
    Q r3 σ4)
  else
  Q r3 σ4)))
def B_Model_whereNow : (Nat → List Int → AMem → Prop) → (Int → AMem → Prop) → Nat → List Int → AMem → Prop := fun X Q j v σ => am_sel [(am_v3 (fun t x1 x2 σ => if t = 9790 then B_Model_whereNow_0 X Q x1 x2 σ else False))] j v σ
def T_Model_whereNow : List Int → AMem → (Int → AMem → Prop) → Prop := am_T B_Model_whereNow
abbrev y_Model_whereNow : MethodName := ⟨"LinkHouseModel", "whereNow", "(II)I"⟩
def a_Model_whereNow : AC := (240, (y_Model_whereNow, prog_10_method_60_code, 4, (Option.some Jvm.ClassFile.FieldType.int)), [2, 0, 0], 0, false, { frames := 6, cells := 0, slots := 0, locals := 183 }, T_Model_whereNow)
set_option maxRecDepth 100000 in
theorem ms_Model_whereNow : am_MSp a_Model_whereNow := am_ms_v 9147 9 9146 109001 8 rfl (by decide +kernel)
abbrev k_Model_whereNow : List AC := [a_Model_object, a_Model_where]
set_option maxRecDepth 100000 in
theorem s_Model_whereNow : (am_chkR { frames := 6, cells := 0, slots := 0, locals := 183 } k_Model_whereNow && am_chkN c_Model_whereNow { frames := 6, cells := 0, slots := 0, locals := 183 } && c_Model_whereNow.all (am_chk "LinkHouseModel" prog_10_method_60_code 4 (Option.some Jvm.ClassFile.FieldType.int) k_Model_whereNow) && c_Model_whereNow.all (am_chkL m_Model_whereNow) && decide (m_Model_whereNow[0]? = some (0, am_argp 0 [2, 0, 0], [])) && decide (am_argn [2, 0, 0] ≤ 4)) = true := by decide +kernel
set_option maxHeartbeats 150000 in
set_option maxRecDepth 100000 in
theorem h_Model_whereNow : ∀ X Q j v σ, B_Model_whereNow X Q j v σ → am_at GR k_Model_whereNow c_Model_whereNow m_Model_whereNow X Q 30 j v σ := fun X Q => am_sel_all (P := fun j v σ => am_at GR k_Model_whereNow c_Model_whereNow m_Model_whereNow X Q 30 j v σ) (⟨(am_v3_of (fun t x1 x2 σ h => am_tk (fun e => by subst e; exact fun h => h) h)), trivial⟩)
set_option maxRecDepth 100000 in
theorem S_Model_whereNow (l : Launch) (w : AW) : am_S l w GR a_Model_whereNow := am_sound (rt := 0) (cal := k_Model_whereNow) 240 y_Model_whereNow prog_10_method_60_code 4 (Option.some Jvm.ClassFile.FieldType.int) [2, 0, 0] false { frames := 6, cells := 0, slots := 0, locals := 183 } B_Model_whereNow "LinkHouseModel" c_Model_whereNow m_Model_whereNow 30 ms_Model_whereNow (by decide +kernel) rfl rfl (am_cal (S_Model_object l w) (am_cal (S_Model_where l w) (fun _ h => absurd h List.not_mem_nil))) s_Model_whereNow h_Model_whereNow
set_option maxRecDepth 100000 in
theorem of_Model_whereNow {Q : Int → AMem → Prop} {x1 x2 : Int} {σ : AMem} (h : ∀ X : Nat → List Int → AMem → Prop, (∀ (x1 x2 : Int) (σ : AMem), B_Model_whereNow_0 X Q x1 x2 σ → X 0 [9790, x1, x2] σ) → X 0 [9790, x1, x2] σ) : T_Model_whereNow [9790, x1, x2] σ Q := fun X hX => h X (fun x1 x2 σ h => hX 0 [9790, x1, x2] σ h)
set_option maxRecDepth 100000 in
theorem iff_Model_whereNow {Q : Int → AMem → Prop} {X : Nat → List Int → AMem → Prop} {x1 x2 : Int} {σ : AMem} : T_Model_whereNow [9790, x1, x2] σ Q ↔ B_Model_whereNow_0 X Q x1 x2 σ := ⟨fun h => h (fun j v σ => B_Model_whereNow X Q j v σ) (fun _ _ _ q => q), fun h _ hX => hX 0 _ _ h⟩
def c_Model_strengthOf : List aE := [(0, 1, .aload_n 0, 1, 0, 0, []), (1, 0, .iload_n 1, 1, 0, 0, []), (2, 0, .iload_n 2, 1, 0, 0, []), (3, 0, .invokevirtual 506, 3, 240, 8, [9144]), (6, 0, .ifCond .ne 7, 3, 0, 0, []), (9, 0, .iconst 0, 1, 0, 0, []), (10, 0, .goto 38, 3, 0, 0, []), (13, 0, .aload_n 0, 1, 0, 0, []), (14, 0, .iload_n 1, 1, 0, 0, []), (15, 0, .iload_n 2, 1, 0, 0, []), (16, 0, .invokevirtual 506, 3, 240, 8, [9144]), (19, 0, .ldc_w 379, 3, 65522, 0, [8218]), (22, 0, .if_icmp .ne 7, 3, 0, 0, []), (25, 0, .iconst 2, 1, 0, 0, []), (26, 0, .goto 22, 3, 0, 0, []), (29, 0, .aload_n 0, 1, 0, 0, []), (30, 0, .aload_n 0, 1, 0, 0, []), (31, 0, .iload_n 1, 1, 0, 0, []), (32, 0, .invokevirtual 503, 3, 236, 8, [9124]), (35, 0, .iload_n 2, 1, 0, 0, []), (36, 0, .invokevirtual 375, 3, 201, 8, [8213]), (39, 0, .iconst 1, 1, 0, 0, []), (40, 0, .if_icmp .ne 7, 3, 0, 0, []), (43, 0, .iconst 3, 1, 0, 0, []), (44, 0, .goto 4, 3, 0, 0, []), (47, 0, .iconst 1, 1, 0, 0, []), (48, 0, .ireturn, 1, 0, 0, [])]
def m_Model_strengthOf : List aT := [(0, [(0, 2), (1, 0), (2, 0)], [])]
def B_Model_strengthOf_0 (X : Nat → List Int → AMem → Prop) (Q : Int → AMem → Prop) (x1 x2 : Int) (σ : AMem) : Prop :=
  T_Model_whereNow [9790, x1, x2] σ (fun r1 σ2 => (if r1 = 0 then
  Q 0 σ2
  else
  T_Model_whereNow [9790, x1, x2] σ2 (fun r3 σ4 => (if r3 = 65522 then
    Q 2 σ4
    else
    T_Model_object [9790, x1] σ4 (fun r5 σ6 => T_Model_bind [9790, r5, x2] σ6 (fun r7 σ8 => (if r7 = 1 then
      Q 3 σ8
      else
      Q 1 σ8)))))))
def B_Model_strengthOf : (Nat → List Int → AMem → Prop) → (Int → AMem → Prop) → Nat → List Int → AMem → Prop := fun X Q j v σ => am_sel [(am_v3 (fun t x1 x2 σ => if t = 9790 then B_Model_strengthOf_0 X Q x1 x2 σ else False))] j v σ
def T_Model_strengthOf : List Int → AMem → (Int → AMem → Prop) → Prop := am_T B_Model_strengthOf
abbrev y_Model_strengthOf : MethodName := ⟨"LinkHouseModel", "strengthOf", "(II)I"⟩
def a_Model_strengthOf : AC := (241, (y_Model_strengthOf, prog_10_method_61_code, 3, (Option.some Jvm.ClassFile.FieldType.int)), [2, 0, 0], 0, false, { frames := 7, cells := 0, slots := 0, locals := 214 }, T_Model_strengthOf)
set_option maxRecDepth 100000 in
theorem ms_Model_strengthOf : am_MSp a_Model_strengthOf := am_ms_v 9143 9 9142 109000 8 rfl (by decide +kernel)
abbrev k_Model_strengthOf : List AC := [a_Model_whereNow, a_Model_object, a_Model_bind]
set_option maxRecDepth 100000 in
theorem s_Model_strengthOf : (am_chkR { frames := 7, cells := 0, slots := 0, locals := 214 } k_Model_strengthOf && am_chkN c_Model_strengthOf { frames := 7, cells := 0, slots := 0, locals := 214 } && c_Model_strengthOf.all (am_chk "LinkHouseModel" prog_10_method_61_code 3 (Option.some Jvm.ClassFile.FieldType.int) k_Model_strengthOf) && c_Model_strengthOf.all (am_chkL m_Model_strengthOf) && decide (m_Model_strengthOf[0]? = some (0, am_argp 0 [2, 0, 0], [])) && decide (am_argn [2, 0, 0] ≤ 3)) = true := by decide +kernel
set_option maxHeartbeats 150000 in
set_option maxRecDepth 100000 in
theorem h_Model_strengthOf : ∀ X Q j v σ, B_Model_strengthOf X Q j v σ → am_at GR k_Model_strengthOf c_Model_strengthOf m_Model_strengthOf X Q 32 j v σ := fun X Q => am_sel_all (P := fun j v σ => am_at GR k_Model_strengthOf c_Model_strengthOf m_Model_strengthOf X Q 32 j v σ) (⟨(am_v3_of (fun t x1 x2 σ h => am_tk (fun e => by subst e; exact fun h => h) h)), trivial⟩)
set_option maxRecDepth 100000 in
theorem S_Model_strengthOf (l : Launch) (w : AW) : am_S l w GR a_Model_strengthOf := am_sound (rt := 0) (cal := k_Model_strengthOf) 241 y_Model_strengthOf prog_10_method_61_code 3 (Option.some Jvm.ClassFile.FieldType.int) [2, 0, 0] false { frames := 7, cells := 0, slots := 0, locals := 214 } B_Model_strengthOf "LinkHouseModel" c_Model_strengthOf m_Model_strengthOf 32 ms_Model_strengthOf (by decide +kernel) rfl rfl (am_cal (S_Model_whereNow l w) (am_cal (S_Model_object l w) (am_cal (S_Model_bind l w) (fun _ h => absurd h List.not_mem_nil)))) s_Model_strengthOf h_Model_strengthOf
set_option maxRecDepth 100000 in
theorem of_Model_strengthOf {Q : Int → AMem → Prop} {x1 x2 : Int} {σ : AMem} (h : ∀ X : Nat → List Int → AMem → Prop, (∀ (x1 x2 : Int) (σ : AMem), B_Model_strengthOf_0 X Q x1 x2 σ → X 0 [9790, x1, x2] σ) → X 0 [9790, x1, x2] σ) : T_Model_strengthOf [9790, x1, x2] σ Q := fun X hX => h X (fun x1 x2 σ h => hX 0 [9790, x1, x2] σ h)
set_option maxRecDepth 100000 in
theorem iff_Model_strengthOf {Q : Int → AMem → Prop} {X : Nat → List Int → AMem → Prop} {x1 x2 : Int} {σ : AMem} : T_Model_strengthOf [9790, x1, x2] σ Q ↔ B_Model_strengthOf_0 X Q x1 x2 σ := ⟨fun h => h (fun j v σ => B_Model_strengthOf X Q j v σ) (fun _ _ _ q => q), fun h _ hX => hX 0 _ _ h⟩
