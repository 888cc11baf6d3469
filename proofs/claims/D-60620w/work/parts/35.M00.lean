/-! methods: printed by gen/all.py -/
def c_Model_thrown : List aE := [(0, 1, .aload_n 0, 1, 0, 0, []), (1, 0, .getfield 281, 3, 8, 0, [0, 0, 6189]), (4, 0, .ireturn, 1, 0, 0, [])]
def m_Model_thrown : List aT := [(0, [(0, 2)], [])]
def B_Model_thrown_0 (X : Nat → List Int → AMem → Prop) (Q : Int → AMem → Prop) (σ : AMem) : Prop :=
  Q (σ 9790 0) σ
def B_Model_thrown : (Nat → List Int → AMem → Prop) → (Int → AMem → Prop) → Nat → List Int → AMem → Prop := fun X Q j v σ => am_sel [(am_v1 (fun t σ => if t = 9790 then B_Model_thrown_0 X Q σ else False))] j v σ
def T_Model_thrown : List Int → AMem → (Int → AMem → Prop) → Prop := am_T B_Model_thrown
abbrev y_Model_thrown : MethodName := ⟨"LinkHouseModel", "thrown", "()I"⟩
def a_Model_thrown : AC := (180, (y_Model_thrown, prog_10_method_2_code, 1, (Option.some Jvm.ClassFile.FieldType.int)), [2], 0, false, { frames := 0, cells := 0, slots := 0, locals := 0 }, T_Model_thrown)
set_option maxRecDepth 100000 in
theorem ms_Model_thrown : am_MSp a_Model_thrown := am_ms_v 8103 9 8101 8102 8 rfl (by decide +kernel)
abbrev k_Model_thrown : List AC := []
set_option maxRecDepth 100000 in
theorem s_Model_thrown : (am_chkR { frames := 0, cells := 0, slots := 0, locals := 0 } k_Model_thrown && am_chkN c_Model_thrown { frames := 0, cells := 0, slots := 0, locals := 0 } && c_Model_thrown.all (am_chk "LinkHouseModel" prog_10_method_2_code 1 (Option.some Jvm.ClassFile.FieldType.int) k_Model_thrown) && c_Model_thrown.all (am_chkL m_Model_thrown) && decide (m_Model_thrown[0]? = some (0, am_argp 0 [2], [])) && decide (am_argn [2] ≤ 1)) = true := by decide +kernel
set_option maxHeartbeats 150000 in
set_option maxRecDepth 100000 in
theorem h_Model_thrown : ∀ X Q j v σ, B_Model_thrown X Q j v σ → am_at GR k_Model_thrown c_Model_thrown m_Model_thrown X Q 20 j v σ := fun X Q => am_sel_all (P := fun j v σ => am_at GR k_Model_thrown c_Model_thrown m_Model_thrown X Q 20 j v σ) (⟨(am_v1_of (fun t σ h => am_tk (fun e => by subst e; exact fun h => h) h)), trivial⟩)
set_option maxRecDepth 100000 in
theorem S_Model_thrown (l : Launch) (w : AW) : am_S l w GR a_Model_thrown := am_sound (rt := 0) (cal := k_Model_thrown) 180 y_Model_thrown prog_10_method_2_code 1 (Option.some Jvm.ClassFile.FieldType.int) [2] false { frames := 0, cells := 0, slots := 0, locals := 0 } B_Model_thrown "LinkHouseModel" c_Model_thrown m_Model_thrown 20 ms_Model_thrown (by decide +kernel) rfl rfl (fun _ h => absurd h List.not_mem_nil) s_Model_thrown h_Model_thrown
set_option maxRecDepth 100000 in
theorem of_Model_thrown {Q : Int → AMem → Prop} {σ : AMem} (h : ∀ X : Nat → List Int → AMem → Prop, (∀ (σ : AMem), B_Model_thrown_0 X Q σ → X 0 [9790] σ) → X 0 [9790] σ) : T_Model_thrown [9790] σ Q := fun X hX => h X (fun σ h => hX 0 [9790] σ h)
set_option maxRecDepth 100000 in
theorem iff_Model_thrown {Q : Int → AMem → Prop} {X : Nat → List Int → AMem → Prop} {σ : AMem} : T_Model_thrown [9790] σ Q ↔ B_Model_thrown_0 X Q σ := ⟨fun h => h (fun j v σ => B_Model_thrown X Q j v σ) (fun _ _ _ q => q), fun h _ hX => hX 0 _ _ h⟩
def c_Model_throwing : List aE := [(0, 1, .aload_n 0, 1, 0, 0, []), (1, 0, .iload_n 1, 1, 0, 0, []), (2, 0, .ifCond .eq 7, 3, 0, 0, []), (5, 0, .iconst 1, 1, 0, 0, []), (6, 0, .goto 12, 3, 0, 0, []), (9, 0, .iload_n 2, 1, 0, 0, []), (10, 0, .ifCond .eq 7, 3, 0, 0, []), (13, 0, .iconst 2, 1, 0, 0, []), (14, 0, .goto 4, 3, 0, 0, []), (17, 0, .iconst 0, 1, 0, 0, []), (18, 2, .putfield 281, 3, 8, 0, [0, 0, 6189]), (21, 0, .aload_n 0, 1, 0, 0, []), (22, 0, .getfield 281, 3, 8, 0, [0, 0, 6189]), (25, 0, .ifCond .le 7, 3, 0, 0, []), (28, 0, .iconst 1, 1, 0, 0, []), (29, 0, .goto 4, 3, 0, 0, []), (32, 0, .iconst 0, 1, 0, 0, []), (33, 0, .ireturn, 1, 1, 0, [])]
def m_Model_throwing : List aT := [(0, [(0, 2), (1, 0), (2, 0)], []), (18, [(0, 2)], [0, 2])]
def B_Model_throwing_0 (X : Nat → List Int → AMem → Prop) (Q : Int → AMem → Prop) (x1 x2 : Int) (σ : AMem) : Prop :=
  (if x1 = 0 then
  (if x2 = 0 then
    X 1 [9790, 0, 9790] σ
    else
    X 1 [9790, 2, 9790] σ)
  else
  X 1 [9790, 1, 9790] σ)
def B_Model_throwing_1 (X : Nat → List Int → AMem → Prop) (Q : Int → AMem → Prop) (s0 s1 : Int) (σ : AMem) : Prop :=
  (if ly_k s1 = 28 then (if ly_fin s1 0 = 0 then am_let (am_upd σ s1 0 s0) (fun σ1 => (if 0 < (σ1 9790 0) then
  Q 1 σ1
  else
  Q 0 σ1)) else False) else False)
def B_Model_throwing : (Nat → List Int → AMem → Prop) → (Int → AMem → Prop) → Nat → List Int → AMem → Prop := fun X Q j v σ => am_sel [(am_v3 (fun t x1 x2 σ => if t = 9790 then B_Model_throwing_0 X Q x1 x2 σ else False)), (am_v3 (fun t s0 s1 σ => if t = 9790 then B_Model_throwing_1 X Q s0 s1 σ else False))] j v σ
def T_Model_throwing : List Int → AMem → (Int → AMem → Prop) → Prop := am_T B_Model_throwing
abbrev y_Model_throwing : MethodName := ⟨"LinkHouseModel", "throwing", "(ZZ)Z"⟩
def a_Model_throwing : AC := (181, (y_Model_throwing, prog_10_method_3_code, 3, (Option.some Jvm.ClassFile.FieldType.boolean)), [2, 0, 0], 0, false, { frames := 0, cells := 0, slots := 0, locals := 0 }, T_Model_throwing)
set_option maxRecDepth 100000 in
theorem ms_Model_throwing : am_MSp a_Model_throwing := am_ms_v 8111 9 8110 105011 8 rfl (by decide +kernel)
abbrev k_Model_throwing : List AC := []
set_option maxRecDepth 100000 in
theorem s_Model_throwing : (am_chkR { frames := 0, cells := 0, slots := 0, locals := 0 } k_Model_throwing && am_chkN c_Model_throwing { frames := 0, cells := 0, slots := 0, locals := 0 } && c_Model_throwing.all (am_chk "LinkHouseModel" prog_10_method_3_code 3 (Option.some Jvm.ClassFile.FieldType.boolean) k_Model_throwing) && c_Model_throwing.all (am_chkL m_Model_throwing) && decide (m_Model_throwing[0]? = some (0, am_argp 0 [2, 0, 0], [])) && decide (am_argn [2, 0, 0] ≤ 3)) = true := by decide +kernel
set_option maxHeartbeats 150000 in
set_option maxRecDepth 100000 in
theorem h_Model_throwing : ∀ X Q j v σ, B_Model_throwing X Q j v σ → am_at GR k_Model_throwing c_Model_throwing m_Model_throwing X Q 23 j v σ := fun X Q => am_sel_all (P := fun j v σ => am_at GR k_Model_throwing c_Model_throwing m_Model_throwing X Q 23 j v σ) (⟨(am_v3_of (fun t x1 x2 σ h => am_tk (fun e => by subst e; exact fun h => h) h)), ⟨(am_v3_of (fun t s0 s1 σ h => am_tk (fun e => by subst e; exact fun h => h) h)), trivial⟩⟩)
set_option maxRecDepth 100000 in
theorem S_Model_throwing (l : Launch) (w : AW) : am_S l w GR a_Model_throwing := am_sound (rt := 0) (cal := k_Model_throwing) 181 y_Model_throwing prog_10_method_3_code 3 (Option.some Jvm.ClassFile.FieldType.boolean) [2, 0, 0] false { frames := 0, cells := 0, slots := 0, locals := 0 } B_Model_throwing "LinkHouseModel" c_Model_throwing m_Model_throwing 23 ms_Model_throwing (by decide +kernel) rfl rfl (fun _ h => absurd h List.not_mem_nil) s_Model_throwing h_Model_throwing
set_option maxRecDepth 100000 in
theorem of_Model_throwing {Q : Int → AMem → Prop} {x1 x2 : Int} {σ : AMem} (h : ∀ X : Nat → List Int → AMem → Prop, (∀ (x1 x2 : Int) (σ : AMem), B_Model_throwing_0 X Q x1 x2 σ → X 0 [9790, x1, x2] σ) → (∀ (s0 s1 : Int) (σ : AMem), B_Model_throwing_1 X Q s0 s1 σ → X 1 [9790, s0, s1] σ) → X 0 [9790, x1, x2] σ) : T_Model_throwing [9790, x1, x2] σ Q := fun X hX => h X (fun x1 x2 σ h => hX 0 [9790, x1, x2] σ h) (fun s0 s1 σ h => hX 1 [9790, s0, s1] σ h)
def c_Model_feed : List aE := [(0, 1, .iload_n 1, 1, 0, 0, []), (1, 0, .iconst 1, 1, 0, 0, []), (2, 0, .if_icmp .lt 9, 3, 0, 0, []), (5, 0, .iload_n 1, 1, 0, 0, []), (6, 0, .bipush 8, 2, 0, 0, []), (8, 0, .if_icmp .le 7, 3, 0, 0, []), (11, 2, .iconst 1, 1, 0, 0, []), (12, 0, .goto 4, 3, 0, 0, []), (15, 0, .iconst 0, 1, 0, 0, []), (16, 3, .istore 4, 2, 0, 0, []), (18, 0, .aload_n 0, 1, 0, 0, []), (19, 0, .iload 4, 2, 0, 0, []), (21, 0, .iload 4, 2, 0, 0, []), (23, 0, .ifCond .ne 19, 3, 0, 0, []), (26, 0, .aload_n 0, 1, 0, 0, []), (27, 0, .getfield 284, 3, 8, 2, [0, 0, 6191]), (30, 0, .iload_n 1, 1, 0, 0, []), (31, 0, .iadd, 1, 0, 0, []), (32, 0, .sipush 8192, 3, 0, 0, []), (35, 0, .if_icmp .le 7, 3, 0, 0, []), (38, 0, .iconst 1, 1, 0, 0, []), (39, 0, .goto 4, 3, 0, 0, []), (42, 4, .iconst 0, 1, 0, 0, []), (43, 5, .invokevirtual 287, 3, 181, 8, [8108]), (46, 0, .ifCond .eq 5, 3, 0, 0, []), (49, 0, .iconst 0, 1, 0, 0, []), (50, 0, .ireturn, 1, 0, 0, []), (51, 0, .iconst 0, 1, 0, 0, []), (52, 0, .istore 5, 2, 0, 0, []), (54, 6, .iload 5, 2, 0, 0, []), (56, 0, .iload_n 1, 1, 0, 0, []), (57, 0, .if_icmp .ge 37, 3, 0, 0, []), (60, 0, .aload_n 0, 1, 0, 0, []), (61, 0, .getfield 7, 3, 8, 1, [2, 0, 6190]), (64, 0, .aload_n 0, 1, 0, 0, []), (65, 0, .getfield 284, 3, 8, 2, [0, 0, 6191]), (68, 0, .lload_n 2, 1, 0, 0, []), (69, 0, .bipush 8, 2, 0, 0, []), (71, 0, .iload 5, 2, 0, 0, []), (73, 0, .imul, 1, 0, 0, []), (74, 0, .lshr, 1, 0, 0, []), (75, 0, .l2i, 1, 0, 0, []), (76, 0, .i2b, 1, 0, 0, []), (77, 0, .bastore, 1, 2, 0, []), (78, 0, .aload_n 0, 1, 0, 0, []), (79, 0, .dup, 1, 0, 0, []), (80, 0, .getfield 284, 3, 8, 2, [0, 0, 6191]), (83, 0, .iconst 1, 1, 0, 0, []), (84, 0, .iadd, 1, 0, 0, []), (85, 0, .putfield 284, 3, 8, 2, [0, 0, 6191]), (88, 0, .iinc 5 1, 3, 0, 0, []), (91, 0, .goto (-37), 3, 0, 0, []), (94, 0, .aload_n 0, 1, 0, 0, []), (95, 0, .getfield 284, 3, 8, 2, [0, 0, 6191]), (98, 0, .ireturn, 1, 0, 0, [])]
def m_Model_feed : List aT := [(0, [(0, 2), (1, 0), (2, 1)], []), (11, [(0, 2), (1, 0), (2, 1)], []), (16, [(0, 2), (1, 0), (2, 1)], [0]), (42, [(0, 2), (1, 0), (2, 1)], [0, 2]), (43, [(0, 2), (1, 0), (2, 1)], [0, 0, 2]), (54, [(0, 2), (1, 0), (2, 1), (5, 0)], [])]
def B_Model_feed_0 (X : Nat → List Int → AMem → Prop) (Q : Int → AMem → Prop) (x1 x2 : Int) (σ : AMem) : Prop :=
  (if x1 < 1 then
  X 1 [9790, x1, x2] σ
  else
  (if 8 < x1 then
    X 1 [9790, x1, x2] σ
    else
    X 2 [9790, x1, x2, 0] σ))
def B_Model_feed_1 (X : Nat → List Int → AMem → Prop) (Q : Int → AMem → Prop) (x1 x2 : Int) (σ : AMem) : Prop :=
  X 2 [9790, x1, x2, 1] σ
def B_Model_feed_2 (X : Nat → List Int → AMem → Prop) (Q : Int → AMem → Prop) (x1 x2 s0 : Int) (σ : AMem) : Prop :=
  (if s0 = 0 then
  am_r32 ((σ 9790 2) + x1) ∧ (if 8192 < ((σ 9790 2) + x1) then
    X 4 [9790, x1, x2, 1, s0, 9790] σ
    else
    X 3 [9790, x1, x2, s0, 9790] σ)
  else
  X 3 [9790, x1, x2, s0, 9790] σ)
def B_Model_feed_3 (X : Nat → List Int → AMem → Prop) (Q : Int → AMem → Prop) (x1 x2 s0 s1 : Int) (σ : AMem) : Prop :=
  X 4 [9790, x1, x2, 0, s0, s1] σ
def B_Model_feed_4 (X : Nat → List Int → AMem → Prop) (Q : Int → AMem → Prop) (x1 x2 s0 s1 s2 : Int) (σ : AMem) : Prop :=
  (if ly_k s2 = 28 then T_Model_throwing [s2, s1, s0] σ (fun r1 σ2 => (if r1 = 0 then
  X 5 [9790, x1, x2, 0] σ2
  else
  Q 0 σ2)) else False)
def B_Model_feed_5 (X : Nat → List Int → AMem → Prop) (Q : Int → AMem → Prop) (x1 x2 x5 : Int) (σ : AMem) : Prop :=
  (if x5 < x1 then
  am_r32 (8 * x5) ∧ 0 ≤ (σ 9790 2) ∧ (σ 9790 2) < 8192 ∧ am_let (am_upd σ 9791 (σ 9790 2) (w8 (w8 (w32 (l_shr x2 (8 * x5)))))) (fun σ1 => am_r32 ((σ1 9790 2) + 1) ∧ am_let (am_upd σ1 9790 2 ((σ1 9790 2) + 1)) (fun σ2 => am_r32 (x5 + 1) ∧ X 5 [9790, x1, x2, (x5 + 1)] σ2))
  else
  Q (σ 9790 2) σ)
def B_Model_feed : (Nat → List Int → AMem → Prop) → (Int → AMem → Prop) → Nat → List Int → AMem → Prop := fun X Q j v σ => am_sel [(am_v3 (fun t x1 x2 σ => if t = 9790 then B_Model_feed_0 X Q x1 x2 σ else False)), (am_v3 (fun t x1 x2 σ => if t = 9790 then B_Model_feed_1 X Q x1 x2 σ else False)), (am_v4 (fun t x1 x2 s0 σ => if t = 9790 then B_Model_feed_2 X Q x1 x2 s0 σ else False)), (am_v5 (fun t x1 x2 s0 s1 σ => if t = 9790 then B_Model_feed_3 X Q x1 x2 s0 s1 σ else False)), (am_v6 (fun t x1 x2 s0 s1 s2 σ => if t = 9790 then B_Model_feed_4 X Q x1 x2 s0 s1 s2 σ else False)), (am_v4 (fun t x1 x2 x5 σ => if t = 9790 then B_Model_feed_5 X Q x1 x2 x5 σ else False))] j v σ
def T_Model_feed : List Int → AMem → (Int → AMem → Prop) → Prop := am_T B_Model_feed
abbrev y_Model_feed : MethodName := ⟨"LinkHouseModel", "feed", "(IJ)I"⟩
def a_Model_feed : AC := (182, (y_Model_feed, prog_10_method_4_code, 6, (Option.some Jvm.ClassFile.FieldType.int)), [2, 0, 1], 0, false, { frames := 1, cells := 0, slots := 0, locals := 30 }, T_Model_feed)
set_option maxRecDepth 100000 in
theorem ms_Model_feed : am_MSp a_Model_feed := am_ms_v 8107 9 8105 8106 8 rfl (by decide +kernel)
abbrev k_Model_feed : List AC := [a_Model_throwing]
set_option maxRecDepth 100000 in
theorem s_Model_feed : (am_chkR { frames := 1, cells := 0, slots := 0, locals := 30 } k_Model_feed && am_chkN c_Model_feed { frames := 1, cells := 0, slots := 0, locals := 30 } && c_Model_feed.all (am_chk "LinkHouseModel" prog_10_method_4_code 6 (Option.some Jvm.ClassFile.FieldType.int) k_Model_feed) && c_Model_feed.all (am_chkL m_Model_feed) && decide (m_Model_feed[0]? = some (0, am_argp 0 [2, 0, 1], [])) && decide (am_argn [2, 0, 1] ≤ 6)) = true := by decide +kernel
set_option maxHeartbeats 150000 in
set_option maxRecDepth 100000 in
theorem h_Model_feed : ∀ X Q j v σ, B_Model_feed X Q j v σ → am_at GR k_Model_feed c_Model_feed m_Model_feed X Q 60 j v σ := fun X Q => am_sel_all (P := fun j v σ => am_at GR k_Model_feed c_Model_feed m_Model_feed X Q 60 j v σ) (⟨(am_v3_of (fun t x1 x2 σ h => am_tk (fun e => by subst e; exact fun h => h) h)), ⟨(am_v3_of (fun t x1 x2 σ h => am_tk (fun e => by subst e; exact fun h => h) h)), ⟨(am_v4_of (fun t x1 x2 s0 σ h => am_tk (fun e => by subst e; exact fun h => h) h)), ⟨(am_v5_of (fun t x1 x2 s0 s1 σ h => am_tk (fun e => by subst e; exact fun h => h) h)), ⟨(am_v6_of (fun t x1 x2 s0 s1 s2 σ h => am_tk (fun e => by subst e; exact fun h => h) h)), ⟨(am_v4_of (fun t x1 x2 x5 σ h => am_tk (fun e => by subst e; exact fun h => h) h)), trivial⟩⟩⟩⟩⟩⟩)
set_option maxRecDepth 100000 in
theorem S_Model_feed (l : Launch) (w : AW) : am_S l w GR a_Model_feed := am_sound (rt := 0) (cal := k_Model_feed) 182 y_Model_feed prog_10_method_4_code 6 (Option.some Jvm.ClassFile.FieldType.int) [2, 0, 1] false { frames := 1, cells := 0, slots := 0, locals := 30 } B_Model_feed "LinkHouseModel" c_Model_feed m_Model_feed 60 ms_Model_feed (by decide +kernel) rfl rfl (am_cal (S_Model_throwing l w) (fun _ h => absurd h List.not_mem_nil)) s_Model_feed h_Model_feed
set_option maxRecDepth 100000 in
theorem of_Model_feed {Q : Int → AMem → Prop} {x1 x2 : Int} {σ : AMem} (h : ∀ X : Nat → List Int → AMem → Prop, (∀ (x1 x2 : Int) (σ : AMem), B_Model_feed_0 X Q x1 x2 σ → X 0 [9790, x1, x2] σ) → (∀ (x1 x2 : Int) (σ : AMem), B_Model_feed_1 X Q x1 x2 σ → X 1 [9790, x1, x2] σ) → (∀ (x1 x2 s0 : Int) (σ : AMem), B_Model_feed_2 X Q x1 x2 s0 σ → X 2 [9790, x1, x2, s0] σ) → (∀ (x1 x2 s0 s1 : Int) (σ : AMem), B_Model_feed_3 X Q x1 x2 s0 s1 σ → X 3 [9790, x1, x2, s0, s1] σ) → (∀ (x1 x2 s0 s1 s2 : Int) (σ : AMem), B_Model_feed_4 X Q x1 x2 s0 s1 s2 σ → X 4 [9790, x1, x2, s0, s1, s2] σ) → (∀ (x1 x2 x5 : Int) (σ : AMem), B_Model_feed_5 X Q x1 x2 x5 σ → X 5 [9790, x1, x2, x5] σ) → X 0 [9790, x1, x2] σ) : T_Model_feed [9790, x1, x2] σ Q := fun X hX => h X (fun x1 x2 σ h => hX 0 [9790, x1, x2] σ h) (fun x1 x2 σ h => hX 1 [9790, x1, x2] σ h) (fun x1 x2 s0 σ h => hX 2 [9790, x1, x2, s0] σ h) (fun x1 x2 s0 s1 σ h => hX 3 [9790, x1, x2, s0, s1] σ h) (fun x1 x2 s0 s1 s2 σ h => hX 4 [9790, x1, x2, s0, s1, s2] σ h) (fun x1 x2 x5 σ h => hX 5 [9790, x1, x2, x5] σ h)
def c_Model_num : List aE := [(0, 1, .lconst 0, 1, 0, 0, []), (1, 0, .lstore_n 3, 1, 0, 0, []), (2, 0, .iload_n 2, 1, 0, 0, []), (3, 0, .iconst 1, 1, 0, 0, []), (4, 0, .isub, 1, 0, 0, []), (5, 0, .istore 5, 2, 0, 0, []), (7, 2, .iload 5, 2, 0, 0, []), (9, 0, .ifCond .lt 29, 3, 0, 0, []), (12, 0, .lload_n 3, 1, 0, 0, []), (13, 0, .bipush 8, 2, 0, 0, []), (15, 0, .lshl, 1, 0, 0, []), (16, 0, .aload_n 0, 1, 0, 0, []), (17, 0, .getfield 17, 3, 8, 6, [2, 0, 6195]), (20, 0, .iload_n 1, 1, 0, 0, []), (21, 0, .iload 5, 2, 0, 0, []), (23, 0, .iadd, 1, 0, 0, []), (24, 0, .baload, 1, 2, 0, []), (25, 0, .sipush 255, 3, 0, 0, []), (28, 0, .iand, 1, 0, 0, []), (29, 0, .i2l, 1, 0, 0, []), (30, 0, .lor, 1, 0, 0, []), (31, 0, .lstore_n 3, 1, 0, 0, []), (32, 0, .iinc 5 (-1), 3, 0, 0, []), (35, 0, .goto (-28), 3, 0, 0, []), (38, 0, .lload_n 3, 1, 0, 0, []), (39, 0, .lreturn, 1, 0, 0, [])]
def m_Model_num : List aT := [(0, [(0, 2), (1, 0), (2, 0)], []), (7, [(0, 2), (1, 0), (3, 1), (5, 0)], [])]
def B_Model_num_0 (X : Nat → List Int → AMem → Prop) (Q : Int → AMem → Prop) (x1 x2 : Int) (σ : AMem) : Prop :=
  am_r32 (x2 - 1) ∧ X 1 [9790, x1, 0, (x2 - 1)] σ
def B_Model_num_1 (X : Nat → List Int → AMem → Prop) (Q : Int → AMem → Prop) (x1 x3 x5 : Int) (σ : AMem) : Prop :=
  (if x5 < 0 then
  Q x3 σ
  else
  am_r32 (x1 + x5) ∧ 0 ≤ (x1 + x5) ∧ (x1 + x5) < 65536 ∧ am_let (l_or (l_shl x3 8) (i_and (σ 9793 (x1 + x5)) 255)) (fun y1 => am_r32 (x5 + (-1)) ∧ X 1 [9790, x1, y1, (x5 + (-1))] σ))
def B_Model_num : (Nat → List Int → AMem → Prop) → (Int → AMem → Prop) → Nat → List Int → AMem → Prop := fun X Q j v σ => am_sel [(am_v3 (fun t x1 x2 σ => if t = 9790 then B_Model_num_0 X Q x1 x2 σ else False)), (am_v4 (fun t x1 x3 x5 σ => if t = 9790 then B_Model_num_1 X Q x1 x3 x5 σ else False))] j v σ
def T_Model_num : List Int → AMem → (Int → AMem → Prop) → Prop := am_T B_Model_num
abbrev y_Model_num : MethodName := ⟨"LinkHouseModel", "num", "(II)J"⟩
def a_Model_num : AC := (183, (y_Model_num, prog_10_method_5_code, 6, (Option.some Jvm.ClassFile.FieldType.long)), [2, 0, 0], 1, false, { frames := 0, cells := 0, slots := 0, locals := 0 }, T_Model_num)
set_option maxRecDepth 100000 in
theorem ms_Model_num : am_MSp a_Model_num := am_ms_v 8123 9 8122 105013 8 rfl (by decide +kernel)
abbrev k_Model_num : List AC := []
set_option maxRecDepth 100000 in
theorem s_Model_num : (am_chkR { frames := 0, cells := 0, slots := 0, locals := 0 } k_Model_num && am_chkN c_Model_num { frames := 0, cells := 0, slots := 0, locals := 0 } && c_Model_num.all (am_chk "LinkHouseModel" prog_10_method_5_code 6 (Option.some Jvm.ClassFile.FieldType.long) k_Model_num) && c_Model_num.all (am_chkL m_Model_num) && decide (m_Model_num[0]? = some (0, am_argp 0 [2, 0, 0], [])) && decide (am_argn [2, 0, 0] ≤ 6)) = true := by decide +kernel
set_option maxHeartbeats 150000 in
set_option maxRecDepth 100000 in
theorem h_Model_num : ∀ X Q j v σ, B_Model_num X Q j v σ → am_at GR k_Model_num c_Model_num m_Model_num X Q 31 j v σ := fun X Q => am_sel_all (P := fun j v σ => am_at GR k_Model_num c_Model_num m_Model_num X Q 31 j v σ) (⟨(am_v3_of (fun t x1 x2 σ h => am_tk (fun e => by subst e; exact fun h => h) h)), ⟨(am_v4_of (fun t x1 x3 x5 σ h => am_tk (fun e => by subst e; exact fun h => h) h)), trivial⟩⟩)
set_option maxRecDepth 100000 in
theorem S_Model_num (l : Launch) (w : AW) : am_S l w GR a_Model_num := am_sound (rt := 1) (cal := k_Model_num) 183 y_Model_num prog_10_method_5_code 6 (Option.some Jvm.ClassFile.FieldType.long) [2, 0, 0] false { frames := 0, cells := 0, slots := 0, locals := 0 } B_Model_num "LinkHouseModel" c_Model_num m_Model_num 31 ms_Model_num (by decide +kernel) rfl rfl (fun _ h => absurd h List.not_mem_nil) s_Model_num h_Model_num
set_option maxRecDepth 100000 in
theorem of_Model_num {Q : Int → AMem → Prop} {x1 x2 : Int} {σ : AMem} (h : ∀ X : Nat → List Int → AMem → Prop, (∀ (x1 x2 : Int) (σ : AMem), B_Model_num_0 X Q x1 x2 σ → X 0 [9790, x1, x2] σ) → (∀ (x1 x3 x5 : Int) (σ : AMem), B_Model_num_1 X Q x1 x3 x5 σ → X 1 [9790, x1, x3, x5] σ) → X 0 [9790, x1, x2] σ) : T_Model_num [9790, x1, x2] σ Q := fun X hX => h X (fun x1 x2 σ h => hX 0 [9790, x1, x2] σ h) (fun x1 x3 x5 σ h => hX 1 [9790, x1, x3, x5] σ h)
def c_Model_isHeader : List aE := [(0, 1, .aload_n 0, 1, 0, 0, []), (1, 0, .iload_n 1, 1, 0, 0, []), (2, 0, .bipush 7, 2, 0, 0, []), (4, 0, .invokevirtual 291, 3, 183, 8, [8120]), (7, 0, .ldc2_w 337, 3, 282584257676671, 0, [8133]), (10, 0, .lcmp, 1, 0, 0, []), (11, 0, .ifCond .ne 51, 3, 0, 0, []), (14, 0, .aload_n 0, 1, 0, 0, []), (15, 0, .iload_n 1, 1, 0, 0, []), (16, 0, .bipush 16, 2, 0, 0, []), (18, 0, .iadd, 1, 0, 0, []), (19, 0, .iconst 2, 1, 0, 0, []), (20, 0, .invokevirtual 291, 3, 183, 8, [8120]), (23, 0, .lconst 1, 1, 0, 0, []), (24, 0, .lcmp, 1, 0, 0, []), (25, 0, .ifCond .ne 37, 3, 0, 0, []), (28, 0, .aload_n 0, 1, 0, 0, []), (29, 0, .iload_n 1, 1, 0, 0, []), (30, 0, .bipush 18, 2, 0, 0, []), (32, 0, .iadd, 1, 0, 0, []), (33, 0, .iconst 2, 1, 0, 0, []), (34, 0, .invokevirtual 291, 3, 183, 8, [8120]), (37, 0, .ldc2_w 339, 3, 62, 0, [8134]), (40, 0, .lcmp, 1, 0, 0, []), (41, 0, .ifCond .ne 21, 3, 0, 0, []), (44, 0, .aload_n 0, 1, 0, 0, []), (45, 0, .iload_n 1, 1, 0, 0, []), (46, 0, .bipush 20, 2, 0, 0, []), (48, 0, .iadd, 1, 0, 0, []), (49, 0, .iconst 4, 1, 0, 0, []), (50, 0, .invokevirtual 291, 3, 183, 8, [8120]), (53, 0, .lconst 1, 1, 0, 0, []), (54, 0, .lcmp, 1, 0, 0, []), (55, 0, .ifCond .ne 7, 3, 0, 0, []), (58, 0, .iconst 1, 1, 0, 0, []), (59, 0, .goto 4, 3, 0, 0, []), (62, 2, .iconst 0, 1, 0, 0, []), (63, 3, .istore_n 2, 1, 0, 0, []), (64, 0, .iload_n 2, 1, 0, 0, []), (65, 0, .ifCond .eq 39, 3, 0, 0, []), (68, 0, .aload_n 0, 1, 0, 0, []), (69, 0, .iload_n 1, 1, 0, 0, []), (70, 0, .bipush 52, 2, 0, 0, []), (72, 0, .iadd, 1, 0, 0, []), (73, 0, .iconst 2, 1, 0, 0, []), (74, 0, .invokevirtual 291, 3, 183, 8, [8120]), (77, 0, .ldc2_w 341, 3, 64, 0, [8135]), (80, 0, .lcmp, 1, 0, 0, []), (81, 0, .ifCond .ne 23, 3, 0, 0, []), (84, 0, .aload_n 0, 1, 0, 0, []), (85, 0, .iload_n 1, 1, 0, 0, []), (86, 0, .bipush 58, 2, 0, 0, []), (88, 0, .iadd, 1, 0, 0, []), (89, 0, .iconst 2, 1, 0, 0, []), (90, 0, .invokevirtual 291, 3, 183, 8, [8120]), (93, 0, .ldc2_w 341, 3, 64, 0, [8135]), (96, 0, .lcmp, 1, 0, 0, []), (97, 0, .ifCond .ne 7, 3, 0, 0, []), (100, 0, .iconst 1, 1, 0, 0, []), (101, 0, .goto 4, 3, 0, 0, []), (104, 0, .iconst 0, 1, 0, 0, []), (105, 0, .ireturn, 1, 1, 0, [])]
def m_Model_isHeader : List aT := [(0, [(0, 2), (1, 0)], []), (62, [(0, 2), (1, 0)], []), (63, [(0, 2), (1, 0)], [0])]
def B_Model_isHeader_0 (X : Nat → List Int → AMem → Prop) (Q : Int → AMem → Prop) (x1 : Int) (σ : AMem) : Prop :=
  T_Model_num [9790, x1, 7] σ (fun r1 σ2 => (if r1 = 282584257676671 then
  am_r32 (x1 + 16) ∧ T_Model_num [9790, (x1 + 16), 2] σ2 (fun r3 σ4 => (if r3 = 1 then
    am_r32 (x1 + 18) ∧ T_Model_num [9790, (x1 + 18), 2] σ4 (fun r5 σ6 => (if r5 = 62 then
      am_r32 (x1 + 20) ∧ T_Model_num [9790, (x1 + 20), 4] σ6 (fun r7 σ8 => (if r7 = 1 then
        X 2 [9790, x1, 1] σ8
        else
        X 1 [9790, x1] σ8))
      else
      X 1 [9790, x1] σ6))
    else
    X 1 [9790, x1] σ4))
  else
  X 1 [9790, x1] σ2))
def B_Model_isHeader_1 (X : Nat → List Int → AMem → Prop) (Q : Int → AMem → Prop) (x1 : Int) (σ : AMem) : Prop :=
  X 2 [9790, x1, 0] σ
def B_Model_isHeader_2 (X : Nat → List Int → AMem → Prop) (Q : Int → AMem → Prop) (x1 s0 : Int) (σ : AMem) : Prop :=
  (if s0 = 0 then
  Q 0 σ
  else
  am_r32 (x1 + 52) ∧ T_Model_num [9790, (x1 + 52), 2] σ (fun r1 σ2 => (if r1 = 64 then
    am_r32 (x1 + 58) ∧ T_Model_num [9790, (x1 + 58), 2] σ2 (fun r3 σ4 => (if r3 = 64 then
      Q 1 σ4
      else
      Q 0 σ4))
    else
    Q 0 σ2)))
def B_Model_isHeader : (Nat → List Int → AMem → Prop) → (Int → AMem → Prop) → Nat → List Int → AMem → Prop := fun X Q j v σ => am_sel [(am_v2 (fun t x1 σ => if t = 9790 then B_Model_isHeader_0 X Q x1 σ else False)), (am_v2 (fun t x1 σ => if t = 9790 then B_Model_isHeader_1 X Q x1 σ else False)), (am_v3 (fun t x1 s0 σ => if t = 9790 then B_Model_isHeader_2 X Q x1 s0 σ else False))] j v σ
def T_Model_isHeader : List Int → AMem → (Int → AMem → Prop) → Prop := am_T B_Model_isHeader
abbrev y_Model_isHeader : MethodName := ⟨"LinkHouseModel", "isHeader", "(I)Z"⟩
def a_Model_isHeader : AC := (184, (y_Model_isHeader, prog_10_method_28_code, 3, (Option.some Jvm.ClassFile.FieldType.boolean)), [2, 0], 0, false, { frames := 1, cells := 0, slots := 0, locals := 33 }, T_Model_isHeader)
set_option maxRecDepth 100000 in
theorem ms_Model_isHeader : am_MSp a_Model_isHeader := am_ms_v 8132 9 8131 105015 8 rfl (by decide +kernel)
abbrev k_Model_isHeader : List AC := [a_Model_num]
set_option maxRecDepth 100000 in
theorem s_Model_isHeader : (am_chkR { frames := 1, cells := 0, slots := 0, locals := 33 } k_Model_isHeader && am_chkN c_Model_isHeader { frames := 1, cells := 0, slots := 0, locals := 33 } && c_Model_isHeader.all (am_chk "LinkHouseModel" prog_10_method_28_code 3 (Option.some Jvm.ClassFile.FieldType.boolean) k_Model_isHeader) && c_Model_isHeader.all (am_chkL m_Model_isHeader) && decide (m_Model_isHeader[0]? = some (0, am_argp 0 [2, 0], [])) && decide (am_argn [2, 0] ≤ 3)) = true := by decide +kernel
set_option maxHeartbeats 150000 in
set_option maxRecDepth 100000 in
theorem h_Model_isHeader : ∀ X Q j v σ, B_Model_isHeader X Q j v σ → am_at GR k_Model_isHeader c_Model_isHeader m_Model_isHeader X Q 67 j v σ := fun X Q => am_sel_all (P := fun j v σ => am_at GR k_Model_isHeader c_Model_isHeader m_Model_isHeader X Q 67 j v σ) (⟨(am_v2_of (fun t x1 σ h => am_tk (fun e => by subst e; exact fun h => h) h)), ⟨(am_v2_of (fun t x1 σ h => am_tk (fun e => by subst e; exact fun h => h) h)), ⟨(am_v3_of (fun t x1 s0 σ h => am_tk (fun e => by subst e; exact fun h => h) h)), trivial⟩⟩⟩)
set_option maxRecDepth 100000 in
theorem S_Model_isHeader (l : Launch) (w : AW) : am_S l w GR a_Model_isHeader := am_sound (rt := 0) (cal := k_Model_isHeader) 184 y_Model_isHeader prog_10_method_28_code 3 (Option.some Jvm.ClassFile.FieldType.boolean) [2, 0] false { frames := 1, cells := 0, slots := 0, locals := 33 } B_Model_isHeader "LinkHouseModel" c_Model_isHeader m_Model_isHeader 67 ms_Model_isHeader (by decide +kernel) rfl rfl (am_cal (S_Model_num l w) (fun _ h => absurd h List.not_mem_nil)) s_Model_isHeader h_Model_isHeader
set_option maxRecDepth 100000 in
theorem of_Model_isHeader {Q : Int → AMem → Prop} {x1 : Int} {σ : AMem} (h : ∀ X : Nat → List Int → AMem → Prop, (∀ (x1 : Int) (σ : AMem), B_Model_isHeader_0 X Q x1 σ → X 0 [9790, x1] σ) → (∀ (x1 : Int) (σ : AMem), B_Model_isHeader_1 X Q x1 σ → X 1 [9790, x1] σ) → (∀ (x1 s0 : Int) (σ : AMem), B_Model_isHeader_2 X Q x1 s0 σ → X 2 [9790, x1, s0] σ) → X 0 [9790, x1] σ) : T_Model_isHeader [9790, x1] σ Q := fun X hX => h X (fun x1 σ h => hX 0 [9790, x1] σ h) (fun x1 σ h => hX 1 [9790, x1] σ h) (fun x1 s0 σ h => hX 2 [9790, x1, s0] σ h)
def c_Model_sections : List aE := [(0, 1, .aload_n 0, 1, 0, 0, []), (1, 0, .iload_n 1, 1, 0, 0, []), (2, 0, .bipush 60, 2, 0, 0, []), (4, 0, .iadd, 1, 0, 0, []), (5, 0, .iconst 2, 1, 0, 0, []), (6, 0, .invokevirtual 291, 3, 183, 8, [8120]), (9, 0, .l2i, 1, 0, 0, []), (10, 0, .ireturn, 1, 0, 0, [])]
def m_Model_sections : List aT := [(0, [(0, 2), (1, 0)], [])]
def B_Model_sections_0 (X : Nat → List Int → AMem → Prop) (Q : Int → AMem → Prop) (x1 : Int) (σ : AMem) : Prop :=
  am_r32 (x1 + 60) ∧ T_Model_num [9790, (x1 + 60), 2] σ (fun r1 σ2 => Q (w32 r1) σ2)
def B_Model_sections : (Nat → List Int → AMem → Prop) → (Int → AMem → Prop) → Nat → List Int → AMem → Prop := fun X Q j v σ => am_sel [(am_v2 (fun t x1 σ => if t = 9790 then B_Model_sections_0 X Q x1 σ else False))] j v σ
def T_Model_sections : List Int → AMem → (Int → AMem → Prop) → Prop := am_T B_Model_sections
abbrev y_Model_sections : MethodName := ⟨"LinkHouseModel", "sections", "(I)I"⟩
def a_Model_sections : AC := (185, (y_Model_sections, prog_10_method_6_code, 2, (Option.some Jvm.ClassFile.FieldType.int)), [2, 0], 0, false, { frames := 1, cells := 0, slots := 0, locals := 33 }, T_Model_sections)
set_option maxRecDepth 100000 in
theorem ms_Model_sections : am_MSp a_Model_sections := am_ms_v 8139 9 8138 106000 8 rfl (by decide +kernel)
abbrev k_Model_sections : List AC := [a_Model_num]
set_option maxRecDepth 100000 in
theorem s_Model_sections : (am_chkR { frames := 1, cells := 0, slots := 0, locals := 33 } k_Model_sections && am_chkN c_Model_sections { frames := 1, cells := 0, slots := 0, locals := 33 } && c_Model_sections.all (am_chk "LinkHouseModel" prog_10_method_6_code 2 (Option.some Jvm.ClassFile.FieldType.int) k_Model_sections) && c_Model_sections.all (am_chkL m_Model_sections) && decide (m_Model_sections[0]? = some (0, am_argp 0 [2, 0], [])) && decide (am_argn [2, 0] ≤ 2)) = true := by decide +kernel
set_option maxHeartbeats 150000 in
set_option maxRecDepth 100000 in
theorem h_Model_sections : ∀ X Q j v σ, B_Model_sections X Q j v σ → am_at GR k_Model_sections c_Model_sections m_Model_sections X Q 20 j v σ := fun X Q => am_sel_all (P := fun j v σ => am_at GR k_Model_sections c_Model_sections m_Model_sections X Q 20 j v σ) (⟨(am_v2_of (fun t x1 σ h => am_tk (fun e => by subst e; exact fun h => h) h)), trivial⟩)
set_option maxRecDepth 100000 in
theorem S_Model_sections (l : Launch) (w : AW) : am_S l w GR a_Model_sections := am_sound (rt := 0) (cal := k_Model_sections) 185 y_Model_sections prog_10_method_6_code 2 (Option.some Jvm.ClassFile.FieldType.int) [2, 0] false { frames := 1, cells := 0, slots := 0, locals := 33 } B_Model_sections "LinkHouseModel" c_Model_sections m_Model_sections 20 ms_Model_sections (by decide +kernel) rfl rfl (am_cal (S_Model_num l w) (fun _ h => absurd h List.not_mem_nil)) s_Model_sections h_Model_sections
set_option maxRecDepth 100000 in
theorem of_Model_sections {Q : Int → AMem → Prop} {x1 : Int} {σ : AMem} (h : ∀ X : Nat → List Int → AMem → Prop, (∀ (x1 : Int) (σ : AMem), B_Model_sections_0 X Q x1 σ → X 0 [9790, x1] σ) → X 0 [9790, x1] σ) : T_Model_sections [9790, x1] σ Q := fun X hX => h X (fun x1 σ h => hX 0 [9790, x1] σ h)
set_option maxRecDepth 100000 in
theorem iff_Model_sections {Q : Int → AMem → Prop} {X : Nat → List Int → AMem → Prop} {x1 : Int} {σ : AMem} : T_Model_sections [9790, x1] σ Q ↔ B_Model_sections_0 X Q x1 σ := ⟨fun h => h (fun j v σ => B_Model_sections X Q j v σ) (fun _ _ _ q => q), fun h _ hX => hX 0 _ _ h⟩
def c_Model_lies : List aE := [(0, 1, .lload_n 2, 1, 0, 0, []), (1, 0, .lconst 0, 1, 0, 0, []), (2, 0, .lcmp, 1, 0, 0, []), (3, 0, .ifCond .lt 29, 3, 0, 0, []), (6, 0, .lload_n 0, 1, 0, 0, []), (7, 0, .lconst 0, 1, 0, 0, []), (8, 0, .lcmp, 1, 0, 0, []), (9, 0, .ifCond .lt 23, 3, 0, 0, []), (12, 0, .lload_n 2, 1, 0, 0, []), (13, 0, .lload 4, 2, 0, 0, []), (15, 0, .lcmp, 1, 0, 0, []), (16, 0, .ifCond .gt 16, 3, 0, 0, []), (19, 0, .lload_n 0, 1, 0, 0, []), (20, 0, .lload 4, 2, 0, 0, []), (22, 0, .lload_n 2, 1, 0, 0, []), (23, 0, .lsub, 1, 0, 0, []), (24, 0, .lcmp, 1, 0, 0, []), (25, 0, .ifCond .gt 7, 3, 0, 0, []), (28, 0, .iconst 1, 1, 0, 0, []), (29, 0, .goto 4, 3, 0, 0, []), (32, 0, .iconst 0, 1, 0, 0, []), (33, 0, .ireturn, 1, 1, 0, [])]
def m_Model_lies : List aT := [(0, [(0, 1), (2, 1), (4, 1)], [])]
def B_Model_lies_0 (X : Nat → List Int → AMem → Prop) (Q : Int → AMem → Prop) (x0 x2 x4 : Int) (σ : AMem) : Prop :=
  (if x2 < 0 then
  Q 0 σ
  else
  (if x0 < 0 then
    Q 0 σ
    else
    (if x4 < x2 then
      Q 0 σ
      else
      (if (w64 (x4 - x2)) < x0 then
        Q 0 σ
        else
        Q 1 σ))))
def B_Model_lies : (Nat → List Int → AMem → Prop) → (Int → AMem → Prop) → Nat → List Int → AMem → Prop := fun X Q j v σ => am_sel [(am_v3 (fun x0 x2 x4 σ => B_Model_lies_0 X Q x0 x2 x4 σ))] j v σ
def T_Model_lies : List Int → AMem → (Int → AMem → Prop) → Prop := am_T B_Model_lies
abbrev y_Model_lies : MethodName := ⟨"LinkHouseModel", "lies", "(JJJ)Z"⟩
def a_Model_lies : AC := (186, (y_Model_lies, prog_10_method_27_code, 6, (Option.some Jvm.ClassFile.FieldType.boolean)), [1, 1, 1], 0, true, { frames := 0, cells := 0, slots := 0, locals := 0 }, T_Model_lies)
set_option maxRecDepth 100000 in
theorem ms_Model_lies : am_MSp a_Model_lies := am_ms_s 8142 9 8141 rfl (by decide +kernel)
abbrev k_Model_lies : List AC := []
set_option maxRecDepth 100000 in
theorem s_Model_lies : (am_chkR { frames := 0, cells := 0, slots := 0, locals := 0 } k_Model_lies && am_chkN c_Model_lies { frames := 0, cells := 0, slots := 0, locals := 0 } && c_Model_lies.all (am_chk "LinkHouseModel" prog_10_method_27_code 6 (Option.some Jvm.ClassFile.FieldType.boolean) k_Model_lies) && c_Model_lies.all (am_chkL m_Model_lies) && decide (m_Model_lies[0]? = some (0, am_argp 0 [1, 1, 1], [])) && decide (am_argn [1, 1, 1] ≤ 6)) = true := by decide +kernel
set_option maxHeartbeats 150000 in
set_option maxRecDepth 100000 in
theorem h_Model_lies : ∀ X Q j v σ, B_Model_lies X Q j v σ → am_at GR k_Model_lies c_Model_lies m_Model_lies X Q 27 j v σ := fun X Q => am_sel_all (P := fun j v σ => am_at GR k_Model_lies c_Model_lies m_Model_lies X Q 27 j v σ) (⟨(am_v3_of (fun x0 x2 x4 σ h => h)), trivial⟩)
set_option maxRecDepth 100000 in
theorem S_Model_lies (l : Launch) (w : AW) : am_S l w GR a_Model_lies := am_sound (rt := 0) (cal := k_Model_lies) 186 y_Model_lies prog_10_method_27_code 6 (Option.some Jvm.ClassFile.FieldType.boolean) [1, 1, 1] true { frames := 0, cells := 0, slots := 0, locals := 0 } B_Model_lies "LinkHouseModel" c_Model_lies m_Model_lies 27 ms_Model_lies (by decide +kernel) rfl rfl (fun _ h => absurd h List.not_mem_nil) s_Model_lies h_Model_lies
set_option maxRecDepth 100000 in
theorem of_Model_lies {Q : Int → AMem → Prop} {x0 x2 x4 : Int} {σ : AMem} (h : ∀ X : Nat → List Int → AMem → Prop, (∀ (x0 x2 x4 : Int) (σ : AMem), B_Model_lies_0 X Q x0 x2 x4 σ → X 0 [x0, x2, x4] σ) → X 0 [x0, x2, x4] σ) : T_Model_lies [x0, x2, x4] σ Q := fun X hX => h X (fun x0 x2 x4 σ h => hX 0 [x0, x2, x4] σ h)
set_option maxRecDepth 100000 in
theorem iff_Model_lies {Q : Int → AMem → Prop} {X : Nat → List Int → AMem → Prop} {x0 x2 x4 : Int} {σ : AMem} : T_Model_lies [x0, x2, x4] σ Q ↔ B_Model_lies_0 X Q x0 x2 x4 σ := ⟨fun h => h (fun j v σ => B_Model_lies X Q j v σ) (fun _ _ _ q => q), fun h _ hX => hX 0 _ _ h⟩
def c_Model_row : List aE := [(0, 1, .iload_n 1, 1, 0, 0, []), (1, 0, .aload_n 0, 1, 0, 0, []), (2, 0, .iload_n 1, 1, 0, 0, []), (3, 0, .bipush 40, 2, 0, 0, []), (5, 0, .iadd, 1, 0, 0, []), (6, 0, .bipush 8, 2, 0, 0, []), (8, 0, .invokevirtual 291, 3, 183, 8, [8120]), (11, 0, .l2i, 1, 0, 0, []), (12, 0, .iadd, 1, 0, 0, []), (13, 0, .bipush 64, 2, 0, 0, []), (15, 0, .iload_n 2, 1, 0, 0, []), (16, 0, .imul, 1, 0, 0, []), (17, 0, .iadd, 1, 0, 0, []), (18, 0, .ireturn, 1, 0, 0, [])]
def m_Model_row : List aT := [(0, [(0, 2), (1, 0), (2, 0)], [])]
def B_Model_row_0 (X : Nat → List Int → AMem → Prop) (Q : Int → AMem → Prop) (x1 x2 : Int) (σ : AMem) : Prop :=
  am_r32 (x1 + 40) ∧ T_Model_num [9790, (x1 + 40), 8] σ (fun r1 σ2 => am_r32 (x1 + (w32 r1)) ∧ am_r32 (64 * x2) ∧ am_r32 ((x1 + (w32 r1)) + (64 * x2)) ∧ Q ((x1 + (w32 r1)) + (64 * x2)) σ2)
def B_Model_row : (Nat → List Int → AMem → Prop) → (Int → AMem → Prop) → Nat → List Int → AMem → Prop := fun X Q j v σ => am_sel [(am_v3 (fun t x1 x2 σ => if t = 9790 then B_Model_row_0 X Q x1 x2 σ else False))] j v σ
def T_Model_row : List Int → AMem → (Int → AMem → Prop) → Prop := am_T B_Model_row
abbrev y_Model_row : MethodName := ⟨"LinkHouseModel", "row", "(II)I"⟩
def a_Model_row : AC := (187, (y_Model_row, prog_10_method_7_code, 3, (Option.some Jvm.ClassFile.FieldType.int)), [2, 0, 0], 0, false, { frames := 1, cells := 0, slots := 0, locals := 33 }, T_Model_row)
set_option maxRecDepth 100000 in
theorem ms_Model_row : am_MSp a_Model_row := am_ms_v 8150 9 8149 106002 8 rfl (by decide +kernel)
abbrev k_Model_row : List AC := [a_Model_num]
set_option maxRecDepth 100000 in
theorem s_Model_row : (am_chkR { frames := 1, cells := 0, slots := 0, locals := 33 } k_Model_row && am_chkN c_Model_row { frames := 1, cells := 0, slots := 0, locals := 33 } && c_Model_row.all (am_chk "LinkHouseModel" prog_10_method_7_code 3 (Option.some Jvm.ClassFile.FieldType.int) k_Model_row) && c_Model_row.all (am_chkL m_Model_row) && decide (m_Model_row[0]? = some (0, am_argp 0 [2, 0, 0], [])) && decide (am_argn [2, 0, 0] ≤ 3)) = true := by decide +kernel
set_option maxHeartbeats 150000 in
set_option maxRecDepth 100000 in
theorem h_Model_row : ∀ X Q j v σ, B_Model_row X Q j v σ → am_at GR k_Model_row c_Model_row m_Model_row X Q 20 j v σ := fun X Q => am_sel_all (P := fun j v σ => am_at GR k_Model_row c_Model_row m_Model_row X Q 20 j v σ) (⟨(am_v3_of (fun t x1 x2 σ h => am_tk (fun e => by subst e; exact fun h => h) h)), trivial⟩)
set_option maxRecDepth 100000 in
theorem S_Model_row (l : Launch) (w : AW) : am_S l w GR a_Model_row := am_sound (rt := 0) (cal := k_Model_row) 187 y_Model_row prog_10_method_7_code 3 (Option.some Jvm.ClassFile.FieldType.int) [2, 0, 0] false { frames := 1, cells := 0, slots := 0, locals := 33 } B_Model_row "LinkHouseModel" c_Model_row m_Model_row 20 ms_Model_row (by decide +kernel) rfl rfl (am_cal (S_Model_num l w) (fun _ h => absurd h List.not_mem_nil)) s_Model_row h_Model_row
set_option maxRecDepth 100000 in
theorem of_Model_row {Q : Int → AMem → Prop} {x1 x2 : Int} {σ : AMem} (h : ∀ X : Nat → List Int → AMem → Prop, (∀ (x1 x2 : Int) (σ : AMem), B_Model_row_0 X Q x1 x2 σ → X 0 [9790, x1, x2] σ) → X 0 [9790, x1, x2] σ) : T_Model_row [9790, x1, x2] σ Q := fun X hX => h X (fun x1 x2 σ h => hX 0 [9790, x1, x2] σ h)
set_option maxRecDepth 100000 in
theorem iff_Model_row {Q : Int → AMem → Prop} {X : Nat → List Int → AMem → Prop} {x1 x2 : Int} {σ : AMem} : T_Model_row [9790, x1, x2] σ Q ↔ B_Model_row_0 X Q x1 x2 σ := ⟨fun h => h (fun j v σ => B_Model_row X Q j v σ) (fun _ _ _ q => q), fun h _ hX => hX 0 _ _ h⟩
def c_Model_type : List aE := [(0, 1, .aload_n 0, 1, 0, 0, []), (1, 0, .aload_n 0, 1, 0, 0, []), (2, 0, .iload_n 1, 1, 0, 0, []), (3, 0, .iload_n 2, 1, 0, 0, []), (4, 0, .invokevirtual 295, 3, 187, 8, [8147]), (7, 0, .iconst 4, 1, 0, 0, []), (8, 0, .iadd, 1, 0, 0, []), (9, 0, .iconst 4, 1, 0, 0, []), (10, 0, .invokevirtual 291, 3, 183, 8, [8120]), (13, 0, .lreturn, 1, 0, 0, [])]
def m_Model_type : List aT := [(0, [(0, 2), (1, 0), (2, 0)], [])]
def B_Model_type_0 (X : Nat → List Int → AMem → Prop) (Q : Int → AMem → Prop) (x1 x2 : Int) (σ : AMem) : Prop :=
  T_Model_row [9790, x1, x2] σ (fun r1 σ2 => am_r32 (r1 + 4) ∧ T_Model_num [9790, (r1 + 4), 4] σ2 (fun r3 σ4 => Q r3 σ4))
def B_Model_type : (Nat → List Int → AMem → Prop) → (Int → AMem → Prop) → Nat → List Int → AMem → Prop := fun X Q j v σ => am_sel [(am_v3 (fun t x1 x2 σ => if t = 9790 then B_Model_type_0 X Q x1 x2 σ else False))] j v σ
def T_Model_type : List Int → AMem → (Int → AMem → Prop) → Prop := am_T B_Model_type
abbrev y_Model_type : MethodName := ⟨"LinkHouseModel", "type", "(II)J"⟩
def a_Model_type : AC := (188, (y_Model_type, prog_10_method_8_code, 3, (Option.some Jvm.ClassFile.FieldType.long)), [2, 0, 0], 1, false, { frames := 2, cells := 0, slots := 0, locals := 63 }, T_Model_type)
set_option maxRecDepth 100000 in
theorem ms_Model_type : am_MSp a_Model_type := am_ms_v 8146 9 8145 106001 8 rfl (by decide +kernel)
abbrev k_Model_type : List AC := [a_Model_row, a_Model_num]
set_option maxRecDepth 100000 in
theorem s_Model_type : (am_chkR { frames := 2, cells := 0, slots := 0, locals := 63 } k_Model_type && am_chkN c_Model_type { frames := 2, cells := 0, slots := 0, locals := 63 } && c_Model_type.all (am_chk "LinkHouseModel" prog_10_method_8_code 3 (Option.some Jvm.ClassFile.FieldType.long) k_Model_type) && c_Model_type.all (am_chkL m_Model_type) && decide (m_Model_type[0]? = some (0, am_argp 0 [2, 0, 0], [])) && decide (am_argn [2, 0, 0] ≤ 3)) = true := by decide +kernel
set_option maxHeartbeats 150000 in
set_option maxRecDepth 100000 in
theorem h_Model_type : ∀ X Q j v σ, B_Model_type X Q j v σ → am_at GR k_Model_type c_Model_type m_Model_type X Q 20 j v σ := fun X Q => am_sel_all (P := fun j v σ => am_at GR k_Model_type c_Model_type m_Model_type X Q 20 j v σ) (⟨(am_v3_of (fun t x1 x2 σ h => am_tk (fun e => by subst e; exact fun h => h) h)), trivial⟩)
set_option maxRecDepth 100000 in
theorem S_Model_type (l : Launch) (w : AW) : am_S l w GR a_Model_type := am_sound (rt := 1) (cal := k_Model_type) 188 y_Model_type prog_10_method_8_code 3 (Option.some Jvm.ClassFile.FieldType.long) [2, 0, 0] false { frames := 2, cells := 0, slots := 0, locals := 63 } B_Model_type "LinkHouseModel" c_Model_type m_Model_type 20 ms_Model_type (by decide +kernel) rfl rfl (am_cal (S_Model_row l w) (am_cal (S_Model_num l w) (fun _ h => absurd h List.not_mem_nil))) s_Model_type h_Model_type
set_option maxRecDepth 100000 in
theorem of_Model_type {Q : Int → AMem → Prop} {x1 x2 : Int} {σ : AMem} (h : ∀ X : Nat → List Int → AMem → Prop, (∀ (x1 x2 : Int) (σ : AMem), B_Model_type_0 X Q x1 x2 σ → X 0 [9790, x1, x2] σ) → X 0 [9790, x1, x2] σ) : T_Model_type [9790, x1, x2] σ Q := fun X hX => h X (fun x1 x2 σ h => hX 0 [9790, x1, x2] σ h)
set_option maxRecDepth 100000 in
theorem iff_Model_type {Q : Int → AMem → Prop} {X : Nat → List Int → AMem → Prop} {x1 x2 : Int} {σ : AMem} : T_Model_type [9790, x1, x2] σ Q ↔ B_Model_type_0 X Q x1 x2 σ := ⟨fun h => h (fun j v σ => B_Model_type X Q j v σ) (fun _ _ _ q => q), fun h _ hX => hX 0 _ _ h⟩
def c_Model_beginning : List aE := [(0, 1, .aload_n 0, 1, 0, 0, []), (1, 0, .aload_n 0, 1, 0, 0, []), (2, 0, .iload_n 1, 1, 0, 0, []), (3, 0, .iload_n 2, 1, 0, 0, []), (4, 0, .invokevirtual 295, 3, 187, 8, [8147]), (7, 0, .bipush 24, 2, 0, 0, []), (9, 0, .iadd, 1, 0, 0, []), (10, 0, .bipush 8, 2, 0, 0, []), (12, 0, .invokevirtual 291, 3, 183, 8, [8120]), (15, 0, .lreturn, 1, 0, 0, [])]
def m_Model_beginning : List aT := [(0, [(0, 2), (1, 0), (2, 0)], [])]
def B_Model_beginning_0 (X : Nat → List Int → AMem → Prop) (Q : Int → AMem → Prop) (x1 x2 : Int) (σ : AMem) : Prop :=
  T_Model_row [9790, x1, x2] σ (fun r1 σ2 => am_r32 (r1 + 24) ∧ T_Model_num [9790, (r1 + 24), 8] σ2 (fun r3 σ4 => Q r3 σ4))
def B_Model_beginning : (Nat → List Int → AMem → Prop) → (Int → AMem → Prop) → Nat → List Int → AMem → Prop := fun X Q j v σ => am_sel [(am_v3 (fun t x1 x2 σ => if t = 9790 then B_Model_beginning_0 X Q x1 x2 σ else False))] j v σ
def T_Model_beginning : List Int → AMem → (Int → AMem → Prop) → Prop := am_T B_Model_beginning
abbrev y_Model_beginning : MethodName := ⟨"LinkHouseModel", "beginning", "(II)J"⟩
def a_Model_beginning : AC := (189, (y_Model_beginning, prog_10_method_10_code, 3, (Option.some Jvm.ClassFile.FieldType.long)), [2, 0, 0], 1, false, { frames := 2, cells := 0, slots := 0, locals := 63 }, T_Model_beginning)
set_option maxRecDepth 100000 in
theorem ms_Model_beginning : am_MSp a_Model_beginning := am_ms_v 8159 9 8158 106004 8 rfl (by decide +kernel)
abbrev k_Model_beginning : List AC := [a_Model_row, a_Model_num]
set_option maxRecDepth 100000 in
theorem s_Model_beginning : (am_chkR { frames := 2, cells := 0, slots := 0, locals := 63 } k_Model_beginning && am_chkN c_Model_beginning { frames := 2, cells := 0, slots := 0, locals := 63 } && c_Model_beginning.all (am_chk "LinkHouseModel" prog_10_method_10_code 3 (Option.some Jvm.ClassFile.FieldType.long) k_Model_beginning) && c_Model_beginning.all (am_chkL m_Model_beginning) && decide (m_Model_beginning[0]? = some (0, am_argp 0 [2, 0, 0], [])) && decide (am_argn [2, 0, 0] ≤ 3)) = true := by decide +kernel
set_option maxHeartbeats 150000 in
set_option maxRecDepth 100000 in
theorem h_Model_beginning : ∀ X Q j v σ, B_Model_beginning X Q j v σ → am_at GR k_Model_beginning c_Model_beginning m_Model_beginning X Q 20 j v σ := fun X Q => am_sel_all (P := fun j v σ => am_at GR k_Model_beginning c_Model_beginning m_Model_beginning X Q 20 j v σ) (⟨(am_v3_of (fun t x1 x2 σ h => am_tk (fun e => by subst e; exact fun h => h) h)), trivial⟩)
set_option maxRecDepth 100000 in
theorem S_Model_beginning (l : Launch) (w : AW) : am_S l w GR a_Model_beginning := am_sound (rt := 1) (cal := k_Model_beginning) 189 y_Model_beginning prog_10_method_10_code 3 (Option.some Jvm.ClassFile.FieldType.long) [2, 0, 0] false { frames := 2, cells := 0, slots := 0, locals := 63 } B_Model_beginning "LinkHouseModel" c_Model_beginning m_Model_beginning 20 ms_Model_beginning (by decide +kernel) rfl rfl (am_cal (S_Model_row l w) (am_cal (S_Model_num l w) (fun _ h => absurd h List.not_mem_nil))) s_Model_beginning h_Model_beginning
set_option maxRecDepth 100000 in
theorem of_Model_beginning {Q : Int → AMem → Prop} {x1 x2 : Int} {σ : AMem} (h : ∀ X : Nat → List Int → AMem → Prop, (∀ (x1 x2 : Int) (σ : AMem), B_Model_beginning_0 X Q x1 x2 σ → X 0 [9790, x1, x2] σ) → X 0 [9790, x1, x2] σ) : T_Model_beginning [9790, x1, x2] σ Q := fun X hX => h X (fun x1 x2 σ h => hX 0 [9790, x1, x2] σ h)
set_option maxRecDepth 100000 in
theorem iff_Model_beginning {Q : Int → AMem → Prop} {X : Nat → List Int → AMem → Prop} {x1 x2 : Int} {σ : AMem} : T_Model_beginning [9790, x1, x2] σ Q ↔ B_Model_beginning_0 X Q x1 x2 σ := ⟨fun h => h (fun j v σ => B_Model_beginning X Q j v σ) (fun _ _ _ q => q), fun h _ hX => hX 0 _ _ h⟩
def c_Model_size : List aE := [(0, 1, .aload_n 0, 1, 0, 0, []), (1, 0, .aload_n 0, 1, 0, 0, []), (2, 0, .iload_n 1, 1, 0, 0, []), (3, 0, .iload_n 2, 1, 0, 0, []), (4, 0, .invokevirtual 295, 3, 187, 8, [8147]), (7, 0, .bipush 32, 2, 0, 0, []), (9, 0, .iadd, 1, 0, 0, []), (10, 0, .bipush 8, 2, 0, 0, []), (12, 0, .invokevirtual 291, 3, 183, 8, [8120]), (15, 0, .lreturn, 1, 0, 0, [])]
def m_Model_size : List aT := [(0, [(0, 2), (1, 0), (2, 0)], [])]
def B_Model_size_0 (X : Nat → List Int → AMem → Prop) (Q : Int → AMem → Prop) (x1 x2 : Int) (σ : AMem) : Prop :=
  T_Model_row [9790, x1, x2] σ (fun r1 σ2 => am_r32 (r1 + 32) ∧ T_Model_num [9790, (r1 + 32), 8] σ2 (fun r3 σ4 => Q r3 σ4))
def B_Model_size : (Nat → List Int → AMem → Prop) → (Int → AMem → Prop) → Nat → List Int → AMem → Prop := fun X Q j v σ => am_sel [(am_v3 (fun t x1 x2 σ => if t = 9790 then B_Model_size_0 X Q x1 x2 σ else False))] j v σ
def T_Model_size : List Int → AMem → (Int → AMem → Prop) → Prop := am_T B_Model_size
abbrev y_Model_size : MethodName := ⟨"LinkHouseModel", "size", "(II)J"⟩
def a_Model_size : AC := (190, (y_Model_size, prog_10_method_11_code, 3, (Option.some Jvm.ClassFile.FieldType.long)), [2, 0, 0], 1, false, { frames := 2, cells := 0, slots := 0, locals := 63 }, T_Model_size)
set_option maxRecDepth 100000 in
theorem ms_Model_size : am_MSp a_Model_size := am_ms_v 8163 9 8162 106005 8 rfl (by decide +kernel)
abbrev k_Model_size : List AC := [a_Model_row, a_Model_num]
set_option maxRecDepth 100000 in
theorem s_Model_size : (am_chkR { frames := 2, cells := 0, slots := 0, locals := 63 } k_Model_size && am_chkN c_Model_size { frames := 2, cells := 0, slots := 0, locals := 63 } && c_Model_size.all (am_chk "LinkHouseModel" prog_10_method_11_code 3 (Option.some Jvm.ClassFile.FieldType.long) k_Model_size) && c_Model_size.all (am_chkL m_Model_size) && decide (m_Model_size[0]? = some (0, am_argp 0 [2, 0, 0], [])) && decide (am_argn [2, 0, 0] ≤ 3)) = true := by decide +kernel
set_option maxHeartbeats 150000 in
set_option maxRecDepth 100000 in
theorem h_Model_size : ∀ X Q j v σ, B_Model_size X Q j v σ → am_at GR k_Model_size c_Model_size m_Model_size X Q 20 j v σ := fun X Q => am_sel_all (P := fun j v σ => am_at GR k_Model_size c_Model_size m_Model_size X Q 20 j v σ) (⟨(am_v3_of (fun t x1 x2 σ h => am_tk (fun e => by subst e; exact fun h => h) h)), trivial⟩)
set_option maxRecDepth 100000 in
theorem S_Model_size (l : Launch) (w : AW) : am_S l w GR a_Model_size := am_sound (rt := 1) (cal := k_Model_size) 190 y_Model_size prog_10_method_11_code 3 (Option.some Jvm.ClassFile.FieldType.long) [2, 0, 0] false { frames := 2, cells := 0, slots := 0, locals := 63 } B_Model_size "LinkHouseModel" c_Model_size m_Model_size 20 ms_Model_size (by decide +kernel) rfl rfl (am_cal (S_Model_row l w) (am_cal (S_Model_num l w) (fun _ h => absurd h List.not_mem_nil))) s_Model_size h_Model_size
set_option maxRecDepth 100000 in
theorem of_Model_size {Q : Int → AMem → Prop} {x1 x2 : Int} {σ : AMem} (h : ∀ X : Nat → List Int → AMem → Prop, (∀ (x1 x2 : Int) (σ : AMem), B_Model_size_0 X Q x1 x2 σ → X 0 [9790, x1, x2] σ) → X 0 [9790, x1, x2] σ) : T_Model_size [9790, x1, x2] σ Q := fun X hX => h X (fun x1 x2 σ h => hX 0 [9790, x1, x2] σ h)
set_option maxRecDepth 100000 in
theorem iff_Model_size {Q : Int → AMem → Prop} {X : Nat → List Int → AMem → Prop} {x1 x2 : Int} {σ : AMem} : T_Model_size [9790, x1, x2] σ Q ↔ B_Model_size_0 X Q x1 x2 σ := ⟨fun h => h (fun j v σ => B_Model_size X Q j v σ) (fun _ _ _ q => q), fun h _ hX => hX 0 _ _ h⟩
def c_Model_flagsOf : List aE := [(0, 1, .aload_n 0, 1, 0, 0, []), (1, 0, .aload_n 0, 1, 0, 0, []), (2, 0, .iload_n 1, 1, 0, 0, []), (3, 0, .iload_n 2, 1, 0, 0, []), (4, 0, .invokevirtual 295, 3, 187, 8, [8147]), (7, 0, .bipush 8, 2, 0, 0, []), (9, 0, .iadd, 1, 0, 0, []), (10, 0, .bipush 8, 2, 0, 0, []), (12, 0, .invokevirtual 291, 3, 183, 8, [8120]), (15, 0, .lreturn, 1, 0, 0, [])]
def m_Model_flagsOf : List aT := [(0, [(0, 2), (1, 0), (2, 0)], [])]
def B_Model_flagsOf_0 (X : Nat → List Int → AMem → Prop) (Q : Int → AMem → Prop) (x1 x2 : Int) (σ : AMem) : Prop :=
  T_Model_row [9790, x1, x2] σ (fun r1 σ2 => am_r32 (r1 + 8) ∧ T_Model_num [9790, (r1 + 8), 8] σ2 (fun r3 σ4 => Q r3 σ4))
def B_Model_flagsOf : (Nat → List Int → AMem → Prop) → (Int → AMem → Prop) → Nat → List Int → AMem → Prop := fun X Q j v σ => am_sel [(am_v3 (fun t x1 x2 σ => if t = 9790 then B_Model_flagsOf_0 X Q x1 x2 σ else False))] j v σ
def T_Model_flagsOf : List Int → AMem → (Int → AMem → Prop) → Prop := am_T B_Model_flagsOf
abbrev y_Model_flagsOf : MethodName := ⟨"LinkHouseModel", "flagsOf", "(II)J"⟩
def a_Model_flagsOf : AC := (191, (y_Model_flagsOf, prog_10_method_9_code, 3, (Option.some Jvm.ClassFile.FieldType.long)), [2, 0, 0], 1, false, { frames := 2, cells := 0, slots := 0, locals := 63 }, T_Model_flagsOf)
set_option maxRecDepth 100000 in
theorem ms_Model_flagsOf : am_MSp a_Model_flagsOf := am_ms_v 8171 9 8170 106007 8 rfl (by decide +kernel)
abbrev k_Model_flagsOf : List AC := [a_Model_row, a_Model_num]
set_option maxRecDepth 100000 in
theorem s_Model_flagsOf : (am_chkR { frames := 2, cells := 0, slots := 0, locals := 63 } k_Model_flagsOf && am_chkN c_Model_flagsOf { frames := 2, cells := 0, slots := 0, locals := 63 } && c_Model_flagsOf.all (am_chk "LinkHouseModel" prog_10_method_9_code 3 (Option.some Jvm.ClassFile.FieldType.long) k_Model_flagsOf) && c_Model_flagsOf.all (am_chkL m_Model_flagsOf) && decide (m_Model_flagsOf[0]? = some (0, am_argp 0 [2, 0, 0], [])) && decide (am_argn [2, 0, 0] ≤ 3)) = true := by decide +kernel
set_option maxHeartbeats 150000 in
set_option maxRecDepth 100000 in
theorem h_Model_flagsOf : ∀ X Q j v σ, B_Model_flagsOf X Q j v σ → am_at GR k_Model_flagsOf c_Model_flagsOf m_Model_flagsOf X Q 20 j v σ := fun X Q => am_sel_all (P := fun j v σ => am_at GR k_Model_flagsOf c_Model_flagsOf m_Model_flagsOf X Q 20 j v σ) (⟨(am_v3_of (fun t x1 x2 σ h => am_tk (fun e => by subst e; exact fun h => h) h)), trivial⟩)
set_option maxRecDepth 100000 in
theorem S_Model_flagsOf (l : Launch) (w : AW) : am_S l w GR a_Model_flagsOf := am_sound (rt := 1) (cal := k_Model_flagsOf) 191 y_Model_flagsOf prog_10_method_9_code 3 (Option.some Jvm.ClassFile.FieldType.long) [2, 0, 0] false { frames := 2, cells := 0, slots := 0, locals := 63 } B_Model_flagsOf "LinkHouseModel" c_Model_flagsOf m_Model_flagsOf 20 ms_Model_flagsOf (by decide +kernel) rfl rfl (am_cal (S_Model_row l w) (am_cal (S_Model_num l w) (fun _ h => absurd h List.not_mem_nil))) s_Model_flagsOf h_Model_flagsOf
set_option maxRecDepth 100000 in
theorem of_Model_flagsOf {Q : Int → AMem → Prop} {x1 x2 : Int} {σ : AMem} (h : ∀ X : Nat → List Int → AMem → Prop, (∀ (x1 x2 : Int) (σ : AMem), B_Model_flagsOf_0 X Q x1 x2 σ → X 0 [9790, x1, x2] σ) → X 0 [9790, x1, x2] σ) : T_Model_flagsOf [9790, x1, x2] σ Q := fun X hX => h X (fun x1 x2 σ h => hX 0 [9790, x1, x2] σ h)
set_option maxRecDepth 100000 in
theorem iff_Model_flagsOf {Q : Int → AMem → Prop} {X : Nat → List Int → AMem → Prop} {x1 x2 : Int} {σ : AMem} : T_Model_flagsOf [9790, x1, x2] σ Q ↔ B_Model_flagsOf_0 X Q x1 x2 σ := ⟨fun h => h (fun j v σ => B_Model_flagsOf X Q j v σ) (fun _ _ _ q => q), fun h _ hX => hX 0 _ _ h⟩
def c_Model_isKept : List aE := [(0, 1, .aload_n 0, 1, 0, 0, []), (1, 0, .iload_n 1, 1, 0, 0, []), (2, 0, .iload_n 2, 1, 0, 0, []), (3, 0, .invokevirtual 299, 3, 188, 8, [8143]), (6, 0, .lconst 1, 1, 0, 0, []), (7, 0, .lcmp, 1, 0, 0, []), (8, 0, .ifCond .eq 16, 3, 0, 0, []), (11, 0, .aload_n 0, 1, 0, 0, []), (12, 0, .iload_n 1, 1, 0, 0, []), (13, 0, .iload_n 2, 1, 0, 0, []), (14, 0, .invokevirtual 299, 3, 188, 8, [8143]), (17, 0, .ldc2_w 302, 3, 8, 0, [8155]), (20, 0, .lcmp, 1, 0, 0, []), (21, 0, .ifCond .ne 22, 3, 0, 0, []), (24, 2, .aload_n 0, 1, 0, 0, []), (25, 0, .iload_n 1, 1, 0, 0, []), (26, 0, .iload_n 2, 1, 0, 0, []), (27, 0, .invokevirtual 304, 3, 191, 8, [8168]), (30, 0, .ldc2_w 307, 3, 2, 0, [8172]), (33, 0, .land, 1, 0, 0, []), (34, 0, .lconst 0, 1, 0, 0, []), (35, 0, .lcmp, 1, 0, 0, []), (36, 0, .ifCond .eq 7, 3, 0, 0, []), (39, 0, .iconst 1, 1, 0, 0, []), (40, 0, .goto 4, 3, 0, 0, []), (43, 0, .iconst 0, 1, 0, 0, []), (44, 0, .ireturn, 1, 1, 0, [])]
def m_Model_isKept : List aT := [(0, [(0, 2), (1, 0), (2, 0)], []), (24, [(0, 2), (1, 0), (2, 0)], [])]
def B_Model_isKept_0 (X : Nat → List Int → AMem → Prop) (Q : Int → AMem → Prop) (x1 x2 : Int) (σ : AMem) : Prop :=
  T_Model_type [9790, x1, x2] σ (fun r1 σ2 => (if r1 = 1 then
  X 1 [9790, x1, x2] σ2
  else
  T_Model_type [9790, x1, x2] σ2 (fun r3 σ4 => (if r3 = 8 then
    X 1 [9790, x1, x2] σ4
    else
    Q 0 σ4))))
def B_Model_isKept_1 (X : Nat → List Int → AMem → Prop) (Q : Int → AMem → Prop) (x1 x2 : Int) (σ : AMem) : Prop :=
  T_Model_flagsOf [9790, x1, x2] σ (fun r1 σ2 => (if (l_and r1 2) = 0 then
  Q 0 σ2
  else
  Q 1 σ2))
def B_Model_isKept : (Nat → List Int → AMem → Prop) → (Int → AMem → Prop) → Nat → List Int → AMem → Prop := fun X Q j v σ => am_sel [(am_v3 (fun t x1 x2 σ => if t = 9790 then B_Model_isKept_0 X Q x1 x2 σ else False)), (am_v3 (fun t x1 x2 σ => if t = 9790 then B_Model_isKept_1 X Q x1 x2 σ else False))] j v σ
def T_Model_isKept : List Int → AMem → (Int → AMem → Prop) → Prop := am_T B_Model_isKept
abbrev y_Model_isKept : MethodName := ⟨"LinkHouseModel", "isKept", "(II)Z"⟩
def a_Model_isKept : AC := (192, (y_Model_isKept, prog_10_method_15_code, 3, (Option.some Jvm.ClassFile.FieldType.boolean)), [2, 0, 0], 0, false, { frames := 3, cells := 0, slots := 0, locals := 93 }, T_Model_isKept)
set_option maxRecDepth 100000 in
theorem ms_Model_isKept : am_MSp a_Model_isKept := am_ms_v 8167 9 8166 106006 8 rfl (by decide +kernel)
abbrev k_Model_isKept : List AC := [a_Model_type, a_Model_flagsOf]
set_option maxRecDepth 100000 in
theorem s_Model_isKept : (am_chkR { frames := 3, cells := 0, slots := 0, locals := 93 } k_Model_isKept && am_chkN c_Model_isKept { frames := 3, cells := 0, slots := 0, locals := 93 } && c_Model_isKept.all (am_chk "LinkHouseModel" prog_10_method_15_code 3 (Option.some Jvm.ClassFile.FieldType.boolean) k_Model_isKept) && c_Model_isKept.all (am_chkL m_Model_isKept) && decide (m_Model_isKept[0]? = some (0, am_argp 0 [2, 0, 0], [])) && decide (am_argn [2, 0, 0] ≤ 3)) = true := by decide +kernel
set_option maxHeartbeats 150000 in
set_option maxRecDepth 100000 in
theorem h_Model_isKept : ∀ X Q j v σ, B_Model_isKept X Q j v σ → am_at GR k_Model_isKept c_Model_isKept m_Model_isKept X Q 32 j v σ := fun X Q => am_sel_all (P := fun j v σ => am_at GR k_Model_isKept c_Model_isKept m_Model_isKept X Q 32 j v σ) (⟨(am_v3_of (fun t x1 x2 σ h => am_tk (fun e => by subst e; exact fun h => h) h)), ⟨(am_v3_of (fun t x1 x2 σ h => am_tk (fun e => by subst e; exact fun h => h) h)), trivial⟩⟩)
set_option maxRecDepth 100000 in
theorem S_Model_isKept (l : Launch) (w : AW) : am_S l w GR a_Model_isKept := am_sound (rt := 0) (cal := k_Model_isKept) 192 y_Model_isKept prog_10_method_15_code 3 (Option.some Jvm.ClassFile.FieldType.boolean) [2, 0, 0] false { frames := 3, cells := 0, slots := 0, locals := 93 } B_Model_isKept "LinkHouseModel" c_Model_isKept m_Model_isKept 32 ms_Model_isKept (by decide +kernel) rfl rfl (am_cal (S_Model_type l w) (am_cal (S_Model_flagsOf l w) (fun _ h => absurd h List.not_mem_nil))) s_Model_isKept h_Model_isKept
set_option maxRecDepth 100000 in
theorem of_Model_isKept {Q : Int → AMem → Prop} {x1 x2 : Int} {σ : AMem} (h : ∀ X : Nat → List Int → AMem → Prop, (∀ (x1 x2 : Int) (σ : AMem), B_Model_isKept_0 X Q x1 x2 σ → X 0 [9790, x1, x2] σ) → (∀ (x1 x2 : Int) (σ : AMem), B_Model_isKept_1 X Q x1 x2 σ → X 1 [9790, x1, x2] σ) → X 0 [9790, x1, x2] σ) : T_Model_isKept [9790, x1, x2] σ Q := fun X hX => h X (fun x1 x2 σ h => hX 0 [9790, x1, x2] σ h) (fun x1 x2 σ h => hX 1 [9790, x1, x2] σ h)
def c_Model_align : List aE := [(0, 1, .aload_n 0, 1, 0, 0, []), (1, 0, .aload_n 0, 1, 0, 0, []), (2, 0, .iload_n 1, 1, 0, 0, []), (3, 0, .iload_n 2, 1, 0, 0, []), (4, 0, .invokevirtual 295, 3, 187, 8, [8147]), (7, 0, .bipush 48, 2, 0, 0, []), (9, 0, .iadd, 1, 0, 0, []), (10, 0, .bipush 8, 2, 0, 0, []), (12, 0, .invokevirtual 291, 3, 183, 8, [8120]), (15, 0, .lreturn, 1, 0, 0, [])]
def m_Model_align : List aT := [(0, [(0, 2), (1, 0), (2, 0)], [])]
def B_Model_align_0 (X : Nat → List Int → AMem → Prop) (Q : Int → AMem → Prop) (x1 x2 : Int) (σ : AMem) : Prop :=
  T_Model_row [9790, x1, x2] σ (fun r1 σ2 => am_r32 (r1 + 48) ∧ T_Model_num [9790, (r1 + 48), 8] σ2 (fun r3 σ4 => Q r3 σ4))
def B_Model_align : (Nat → List Int → AMem → Prop) → (Int → AMem → Prop) → Nat → List Int → AMem → Prop := fun X Q j v σ => am_sel [(am_v3 (fun t x1 x2 σ => if t = 9790 then B_Model_align_0 X Q x1 x2 σ else False))] j v σ
def T_Model_align : List Int → AMem → (Int → AMem → Prop) → Prop := am_T B_Model_align
abbrev y_Model_align : MethodName := ⟨"LinkHouseModel", "align", "(II)J"⟩
def a_Model_align : AC := (193, (y_Model_align, prog_10_method_14_code, 3, (Option.some Jvm.ClassFile.FieldType.long)), [2, 0, 0], 1, false, { frames := 2, cells := 0, slots := 0, locals := 63 }, T_Model_align)
set_option maxRecDepth 100000 in
theorem ms_Model_align : am_MSp a_Model_align := am_ms_v 8177 9 8176 106008 8 rfl (by decide +kernel)
abbrev k_Model_align : List AC := [a_Model_row, a_Model_num]
set_option maxRecDepth 100000 in
theorem s_Model_align : (am_chkR { frames := 2, cells := 0, slots := 0, locals := 63 } k_Model_align && am_chkN c_Model_align { frames := 2, cells := 0, slots := 0, locals := 63 } && c_Model_align.all (am_chk "LinkHouseModel" prog_10_method_14_code 3 (Option.some Jvm.ClassFile.FieldType.long) k_Model_align) && c_Model_align.all (am_chkL m_Model_align) && decide (m_Model_align[0]? = some (0, am_argp 0 [2, 0, 0], [])) && decide (am_argn [2, 0, 0] ≤ 3)) = true := by decide +kernel
set_option maxHeartbeats 150000 in
set_option maxRecDepth 100000 in
theorem h_Model_align : ∀ X Q j v σ, B_Model_align X Q j v σ → am_at GR k_Model_align c_Model_align m_Model_align X Q 20 j v σ := fun X Q => am_sel_all (P := fun j v σ => am_at GR k_Model_align c_Model_align m_Model_align X Q 20 j v σ) (⟨(am_v3_of (fun t x1 x2 σ h => am_tk (fun e => by subst e; exact fun h => h) h)), trivial⟩)
set_option maxRecDepth 100000 in
theorem S_Model_align (l : Launch) (w : AW) : am_S l w GR a_Model_align := am_sound (rt := 1) (cal := k_Model_align) 193 y_Model_align prog_10_method_14_code 3 (Option.some Jvm.ClassFile.FieldType.long) [2, 0, 0] false { frames := 2, cells := 0, slots := 0, locals := 63 } B_Model_align "LinkHouseModel" c_Model_align m_Model_align 20 ms_Model_align (by decide +kernel) rfl rfl (am_cal (S_Model_row l w) (am_cal (S_Model_num l w) (fun _ h => absurd h List.not_mem_nil))) s_Model_align h_Model_align
set_option maxRecDepth 100000 in
theorem of_Model_align {Q : Int → AMem → Prop} {x1 x2 : Int} {σ : AMem} (h : ∀ X : Nat → List Int → AMem → Prop, (∀ (x1 x2 : Int) (σ : AMem), B_Model_align_0 X Q x1 x2 σ → X 0 [9790, x1, x2] σ) → X 0 [9790, x1, x2] σ) : T_Model_align [9790, x1, x2] σ Q := fun X hX => h X (fun x1 x2 σ h => hX 0 [9790, x1, x2] σ h)
set_option maxRecDepth 100000 in
theorem iff_Model_align {Q : Int → AMem → Prop} {X : Nat → List Int → AMem → Prop} {x1 x2 : Int} {σ : AMem} : T_Model_align [9790, x1, x2] σ Q ↔ B_Model_align_0 X Q x1 x2 σ := ⟨fun h => h (fun j v σ => B_Model_align X Q j v σ) (fun _ _ _ q => q), fun h _ hX => hX 0 _ _ h⟩
def c_Model_isPower : List aE := [(0, 1, .lload_n 0, 1, 0, 0, []), (1, 0, .lconst 1, 1, 0, 0, []), (2, 0, .lcmp, 1, 0, 0, []), (3, 0, .ifCond .lt 25, 3, 0, 0, []), (6, 0, .lload_n 0, 1, 0, 0, []), (7, 0, .ldc2_w 335, 3, 4096, 0, [8181]), (10, 0, .lcmp, 1, 0, 0, []), (11, 0, .ifCond .gt 17, 3, 0, 0, []), (14, 0, .lload_n 0, 1, 0, 0, []), (15, 0, .lload_n 0, 1, 0, 0, []), (16, 0, .lconst 1, 1, 0, 0, []), (17, 0, .lsub, 1, 0, 0, []), (18, 0, .land, 1, 0, 0, []), (19, 0, .lconst 0, 1, 0, 0, []), (20, 0, .lcmp, 1, 0, 0, []), (21, 0, .ifCond .ne 7, 3, 0, 0, []), (24, 0, .iconst 1, 1, 0, 0, []), (25, 0, .goto 4, 3, 0, 0, []), (28, 0, .iconst 0, 1, 0, 0, []), (29, 0, .ireturn, 1, 1, 0, [])]
def m_Model_isPower : List aT := [(0, [(0, 1)], [])]
def B_Model_isPower_0 (X : Nat → List Int → AMem → Prop) (Q : Int → AMem → Prop) (x0 : Int) (σ : AMem) : Prop :=
  (if x0 < 1 then
  Q 0 σ
  else
  (if 4096 < x0 then
    Q 0 σ
    else
    (if (l_and x0 (w64 (x0 - 1))) = 0 then
      Q 1 σ
      else
      Q 0 σ)))
def B_Model_isPower : (Nat → List Int → AMem → Prop) → (Int → AMem → Prop) → Nat → List Int → AMem → Prop := fun X Q j v σ => am_sel [(am_v1 (fun x0 σ => B_Model_isPower_0 X Q x0 σ))] j v σ
def T_Model_isPower : List Int → AMem → (Int → AMem → Prop) → Prop := am_T B_Model_isPower
abbrev y_Model_isPower : MethodName := ⟨"LinkHouseModel", "isPower", "(J)Z"⟩
def a_Model_isPower : AC := (194, (y_Model_isPower, prog_10_method_26_code, 2, (Option.some Jvm.ClassFile.FieldType.boolean)), [1], 0, true, { frames := 0, cells := 0, slots := 0, locals := 0 }, T_Model_isPower)
set_option maxRecDepth 100000 in
theorem ms_Model_isPower : am_MSp a_Model_isPower := am_ms_s 8180 9 8179 rfl (by decide +kernel)
abbrev k_Model_isPower : List AC := []
set_option maxRecDepth 100000 in
theorem s_Model_isPower : (am_chkR { frames := 0, cells := 0, slots := 0, locals := 0 } k_Model_isPower && am_chkN c_Model_isPower { frames := 0, cells := 0, slots := 0, locals := 0 } && c_Model_isPower.all (am_chk "LinkHouseModel" prog_10_method_26_code 2 (Option.some Jvm.ClassFile.FieldType.boolean) k_Model_isPower) && c_Model_isPower.all (am_chkL m_Model_isPower) && decide (m_Model_isPower[0]? = some (0, am_argp 0 [1], [])) && decide (am_argn [1] ≤ 2)) = true := by decide +kernel
set_option maxHeartbeats 150000 in
set_option maxRecDepth 100000 in
theorem h_Model_isPower : ∀ X Q j v σ, B_Model_isPower X Q j v σ → am_at GR k_Model_isPower c_Model_isPower m_Model_isPower X Q 25 j v σ := fun X Q => am_sel_all (P := fun j v σ => am_at GR k_Model_isPower c_Model_isPower m_Model_isPower X Q 25 j v σ) (⟨(am_v1_of (fun x0 σ h => h)), trivial⟩)
set_option maxRecDepth 100000 in
theorem S_Model_isPower (l : Launch) (w : AW) : am_S l w GR a_Model_isPower := am_sound (rt := 0) (cal := k_Model_isPower) 194 y_Model_isPower prog_10_method_26_code 2 (Option.some Jvm.ClassFile.FieldType.boolean) [1] true { frames := 0, cells := 0, slots := 0, locals := 0 } B_Model_isPower "LinkHouseModel" c_Model_isPower m_Model_isPower 25 ms_Model_isPower (by decide +kernel) rfl rfl (fun _ h => absurd h List.not_mem_nil) s_Model_isPower h_Model_isPower
set_option maxRecDepth 100000 in
theorem of_Model_isPower {Q : Int → AMem → Prop} {x0 : Int} {σ : AMem} (h : ∀ X : Nat → List Int → AMem → Prop, (∀ (x0 : Int) (σ : AMem), B_Model_isPower_0 X Q x0 σ → X 0 [x0] σ) → X 0 [x0] σ) : T_Model_isPower [x0] σ Q := fun X hX => h X (fun x0 σ h => hX 0 [x0] σ h)
set_option maxRecDepth 100000 in
theorem iff_Model_isPower {Q : Int → AMem → Prop} {X : Nat → List Int → AMem → Prop} {x0 : Int} {σ : AMem} : T_Model_isPower [x0] σ Q ↔ B_Model_isPower_0 X Q x0 σ := ⟨fun h => h (fun j v σ => B_Model_isPower X Q j v σ) (fun _ _ _ q => q), fun h _ hX => hX 0 _ _ h⟩
def c_Model_sectionError : List aE := [(0, 1, .aload_n 0, 1, 0, 0, []), (1, 0, .iload_n 1, 1, 0, 0, []), (2, 0, .iload_n 3, 1, 0, 0, []), (3, 0, .invokevirtual 299, 3, 188, 8, [8143]), (6, 0, .lconst 0, 1, 0, 0, []), (7, 0, .lcmp, 1, 0, 0, []), (8, 0, .ifCond .eq 38, 3, 0, 0, []), (11, 0, .aload_n 0, 1, 0, 0, []), (12, 0, .iload_n 1, 1, 0, 0, []), (13, 0, .iload_n 3, 1, 0, 0, []), (14, 0, .invokevirtual 299, 3, 188, 8, [8143]), (17, 0, .ldc2_w 302, 3, 8, 0, [8155]), (20, 0, .lcmp, 1, 0, 0, []), (21, 0, .ifCond .eq 25, 3, 0, 0, []), (24, 0, .aload_n 0, 1, 0, 0, []), (25, 0, .iload_n 1, 1, 0, 0, []), (26, 0, .iload_n 3, 1, 0, 0, []), (27, 0, .invokevirtual 323, 3, 189, 8, [8156]), (30, 0, .aload_n 0, 1, 0, 0, []), (31, 0, .iload_n 1, 1, 0, 0, []), (32, 0, .iload_n 3, 1, 0, 0, []), (33, 0, .invokevirtual 320, 3, 190, 8, [8160]), (36, 0, .iload_n 2, 1, 0, 0, []), (37, 0, .i2l, 1, 0, 0, []), (38, 0, .invokestatic 343, 3, 186, 0, [8140]), (41, 0, .ifCond .ne 5, 3, 0, 0, []), (44, 0, .iconst 3, 1, 0, 0, []), (45, 0, .ireturn, 1, 0, 0, []), (46, 2, .aload_n 0, 1, 0, 0, []), (47, 0, .iload_n 1, 1, 0, 0, []), (48, 0, .iload_n 3, 1, 0, 0, []), (49, 0, .invokevirtual 347, 3, 192, 8, [8164]), (52, 0, .ifCond .ne 5, 3, 0, 0, []), (55, 0, .iconst 0, 1, 0, 0, []), (56, 0, .ireturn, 1, 0, 0, []), (57, 0, .aload_n 0, 1, 0, 0, []), (58, 0, .iload_n 1, 1, 0, 0, []), (59, 0, .iload_n 3, 1, 0, 0, []), (60, 0, .invokevirtual 320, 3, 190, 8, [8160]), (63, 0, .lconst 0, 1, 0, 0, []), (64, 0, .lcmp, 1, 0, 0, []), (65, 0, .ifCond .lt 16, 3, 0, 0, []), (68, 0, .aload_n 0, 1, 0, 0, []), (69, 0, .iload_n 1, 1, 0, 0, []), (70, 0, .iload_n 3, 1, 0, 0, []), (71, 0, .invokevirtual 320, 3, 190, 8, [8160]), (74, 0, .ldc2_w 351, 3, 16384, 0, [8173]), (77, 0, .lcmp, 1, 0, 0, []), (78, 0, .ifCond .le 7, 3, 0, 0, []), (81, 3, .iconst 1, 1, 0, 0, []), (82, 0, .goto 4, 3, 0, 0, []), (85, 0, .iconst 0, 1, 0, 0, []), (86, 4, .istore 4, 2, 0, 0, []), (88, 0, .iload 4, 2, 0, 0, []), (90, 0, .ifCond .ne 26, 3, 0, 0, []), (93, 0, .aload_n 0, 1, 0, 0, []), (94, 0, .iload_n 1, 1, 0, 0, []), (95, 0, .iload_n 3, 1, 0, 0, []), (96, 0, .invokevirtual 353, 3, 193, 8, [8174]), (99, 0, .lconst 0, 1, 0, 0, []), (100, 0, .lcmp, 1, 0, 0, []), (101, 0, .ifCond .eq 19, 3, 0, 0, []), (104, 0, .aload_n 0, 1, 0, 0, []), (105, 0, .iload_n 1, 1, 0, 0, []), (106, 0, .iload_n 3, 1, 0, 0, []), (107, 0, .invokevirtual 353, 3, 193, 8, [8174]), (110, 0, .invokestatic 356, 3, 194, 0, [8178]), (113, 0, .ifCond .ne 7, 3, 0, 0, []), (116, 0, .iconst 4, 1, 0, 0, []), (117, 0, .goto 4, 3, 0, 0, []), (120, 0, .iconst 0, 1, 0, 0, []), (121, 0, .ireturn, 1, 0, 0, [])]
def m_Model_sectionError : List aT := [(0, [(0, 2), (1, 0), (2, 0), (3, 0)], []), (46, [(0, 2), (1, 0), (3, 0)], []), (81, [(0, 2), (1, 0), (3, 0)], []), (86, [(0, 2), (1, 0), (3, 0)], [0])]
def B_Model_sectionError_0 (X : Nat → List Int → AMem → Prop) (Q : Int → AMem → Prop) (x1 x2 x3 : Int) (σ : AMem) : Prop :=
  T_Model_type [9790, x1, x3] σ (fun r1 σ2 => (if r1 = 0 then
  X 1 [9790, x1, x3] σ2
  else
  T_Model_type [9790, x1, x3] σ2 (fun r3 σ4 => (if r3 = 8 then
    X 1 [9790, x1, x3] σ4
    else
    T_Model_beginning [9790, x1, x3] σ4 (fun r5 σ6 => T_Model_size [9790, x1, x3] σ6 (fun r7 σ8 => T_Model_lies [r5, r7, x2] σ8 (fun r9 σ10 => (if r9 = 0 then
      Q 3 σ10
      else
      X 1 [9790, x1, x3] σ10))))))))
def B_Model_sectionError_1 (X : Nat → List Int → AMem → Prop) (Q : Int → AMem → Prop) (x1 x3 : Int) (σ : AMem) : Prop :=
  T_Model_isKept [9790, x1, x3] σ (fun r1 σ2 => (if r1 = 0 then
  Q 0 σ2
  else
  T_Model_size [9790, x1, x3] σ2 (fun r3 σ4 => (if r3 < 0 then
    X 2 [9790, x1, x3] σ4
    else
    T_Model_size [9790, x1, x3] σ4 (fun r5 σ6 => (if 16384 < r5 then
      X 2 [9790, x1, x3] σ6
      else
      X 3 [9790, x1, x3, 0] σ6))))))
def B_Model_sectionError_2 (X : Nat → List Int → AMem → Prop) (Q : Int → AMem → Prop) (x1 x3 : Int) (σ : AMem) : Prop :=
  X 3 [9790, x1, x3, 1] σ
def B_Model_sectionError_3 (X : Nat → List Int → AMem → Prop) (Q : Int → AMem → Prop) (x1 x3 s0 : Int) (σ : AMem) : Prop :=
  (if s0 = 0 then
  T_Model_align [9790, x1, x3] σ (fun r1 σ2 => (if r1 = 0 then
    Q 0 σ2
    else
    T_Model_align [9790, x1, x3] σ2 (fun r3 σ4 => T_Model_isPower [r3] σ4 (fun r5 σ6 => (if r5 = 0 then
      Q 4 σ6
      else
      Q 0 σ6)))))
  else
  Q 4 σ)
def B_Model_sectionError : (Nat → List Int → AMem → Prop) → (Int → AMem → Prop) → Nat → List Int → AMem → Prop := fun X Q j v σ => am_sel [(am_v4 (fun t x1 x2 x3 σ => if t = 9790 then B_Model_sectionError_0 X Q x1 x2 x3 σ else False)), (am_v3 (fun t x1 x3 σ => if t = 9790 then B_Model_sectionError_1 X Q x1 x3 σ else False)), (am_v3 (fun t x1 x3 σ => if t = 9790 then B_Model_sectionError_2 X Q x1 x3 σ else False)), (am_v4 (fun t x1 x3 s0 σ => if t = 9790 then B_Model_sectionError_3 X Q x1 x3 s0 σ else False))] j v σ
def T_Model_sectionError : List Int → AMem → (Int → AMem → Prop) → Prop := am_T B_Model_sectionError
abbrev y_Model_sectionError : MethodName := ⟨"LinkHouseModel", "sectionError", "(III)I"⟩
def a_Model_sectionError : AC := (195, (y_Model_sectionError, prog_10_method_29_code, 5, (Option.some Jvm.ClassFile.FieldType.int)), [2, 0, 0, 0], 0, false, { frames := 4, cells := 0, slots := 0, locals := 123 }, T_Model_sectionError)
set_option maxRecDepth 100000 in
theorem ms_Model_sectionError : am_MSp a_Model_sectionError := am_ms_v 8154 9 8153 106003 8 rfl (by decide +kernel)
abbrev k_Model_sectionError : List AC := [a_Model_type, a_Model_beginning, a_Model_size, a_Model_lies, a_Model_isKept, a_Model_align, a_Model_isPower]
set_option maxRecDepth 100000 in
theorem s_Model_sectionError : (am_chkR { frames := 4, cells := 0, slots := 0, locals := 123 } k_Model_sectionError && am_chkN c_Model_sectionError { frames := 4, cells := 0, slots := 0, locals := 123 } && c_Model_sectionError.all (am_chk "LinkHouseModel" prog_10_method_29_code 5 (Option.some Jvm.ClassFile.FieldType.int) k_Model_sectionError) && c_Model_sectionError.all (am_chkL m_Model_sectionError) && decide (m_Model_sectionError[0]? = some (0, am_argp 0 [2, 0, 0, 0], [])) && decide (am_argn [2, 0, 0, 0] ≤ 5)) = true := by decide +kernel
set_option maxHeartbeats 150000 in
set_option maxRecDepth 100000 in
theorem h_Model_sectionError : ∀ X Q j v σ, B_Model_sectionError X Q j v σ → am_at GR k_Model_sectionError c_Model_sectionError m_Model_sectionError X Q 77 j v σ := fun X Q => am_sel_all (P := fun j v σ => am_at GR k_Model_sectionError c_Model_sectionError m_Model_sectionError X Q 77 j v σ) (⟨(am_v4_of (fun t x1 x2 x3 σ h => am_tk (fun e => by subst e; exact fun h => h) h)), ⟨(am_v3_of (fun t x1 x3 σ h => am_tk (fun e => by subst e; exact fun h => h) h)), ⟨(am_v3_of (fun t x1 x3 σ h => am_tk (fun e => by subst e; exact fun h => h) h)), ⟨(am_v4_of (fun t x1 x3 s0 σ h => am_tk (fun e => by subst e; exact fun h => h) h)), trivial⟩⟩⟩⟩)
set_option maxRecDepth 100000 in
theorem S_Model_sectionError (l : Launch) (w : AW) : am_S l w GR a_Model_sectionError := am_sound (rt := 0) (cal := k_Model_sectionError) 195 y_Model_sectionError prog_10_method_29_code 5 (Option.some Jvm.ClassFile.FieldType.int) [2, 0, 0, 0] false { frames := 4, cells := 0, slots := 0, locals := 123 } B_Model_sectionError "LinkHouseModel" c_Model_sectionError m_Model_sectionError 77 ms_Model_sectionError (by decide +kernel) rfl rfl (am_cal (S_Model_type l w) (am_cal (S_Model_beginning l w) (am_cal (S_Model_size l w) (am_cal (S_Model_lies l w) (am_cal (S_Model_isKept l w) (am_cal (S_Model_align l w) (am_cal (S_Model_isPower l w) (fun _ h => absurd h List.not_mem_nil)))))))) s_Model_sectionError h_Model_sectionError
set_option maxRecDepth 100000 in
theorem of_Model_sectionError {Q : Int → AMem → Prop} {x1 x2 x3 : Int} {σ : AMem} (h : ∀ X : Nat → List Int → AMem → Prop, (∀ (x1 x2 x3 : Int) (σ : AMem), B_Model_sectionError_0 X Q x1 x2 x3 σ → X 0 [9790, x1, x2, x3] σ) → (∀ (x1 x3 : Int) (σ : AMem), B_Model_sectionError_1 X Q x1 x3 σ → X 1 [9790, x1, x3] σ) → (∀ (x1 x3 : Int) (σ : AMem), B_Model_sectionError_2 X Q x1 x3 σ → X 2 [9790, x1, x3] σ) → (∀ (x1 x3 s0 : Int) (σ : AMem), B_Model_sectionError_3 X Q x1 x3 s0 σ → X 3 [9790, x1, x3, s0] σ) → X 0 [9790, x1, x2, x3] σ) : T_Model_sectionError [9790, x1, x2, x3] σ Q := fun X hX => h X (fun x1 x2 x3 σ h => hX 0 [9790, x1, x2, x3] σ h) (fun x1 x3 σ h => hX 1 [9790, x1, x3] σ h) (fun x1 x3 σ h => hX 2 [9790, x1, x3] σ h) (fun x1 x3 s0 σ h => hX 3 [9790, x1, x3, s0] σ h)
def c_Model_symbols : List aE := [(0, 1, .iconst 1, 1, 0, 0, []), (1, 0, .istore_n 2, 1, 0, 0, []), (2, 2, .iload_n 2, 1, 0, 0, []), (3, 0, .aload_n 0, 1, 0, 0, []), (4, 0, .iload_n 1, 1, 0, 0, []), (5, 0, .invokevirtual 313, 3, 185, 8, [8136]), (8, 0, .if_icmp .ge 24, 3, 0, 0, []), (11, 0, .aload_n 0, 1, 0, 0, []), (12, 0, .iload_n 1, 1, 0, 0, []), (13, 0, .iload_n 2, 1, 0, 0, []), (14, 0, .invokevirtual 299, 3, 188, 8, [8143]), (17, 0, .ldc2_w 307, 3, 2, 0, [8172]), (20, 0, .lcmp, 1, 0, 0, []), (21, 0, .ifCond .ne 5, 3, 0, 0, []), (24, 0, .iload_n 2, 1, 0, 0, []), (25, 0, .ireturn, 1, 0, 0, []), (26, 0, .iinc 2 1, 3, 0, 0, []), (29, 0, .goto (-27), 3, 0, 0, []), (32, 0, .iconst 0, 1, 0, 0, []), (33, 0, .ireturn, 1, 0, 0, [])]
def m_Model_symbols : List aT := [(0, [(0, 2), (1, 0)], []), (2, [(0, 2), (1, 0), (2, 0)], [])]
def B_Model_symbols_0 (X : Nat → List Int → AMem → Prop) (Q : Int → AMem → Prop) (x1 : Int) (σ : AMem) : Prop :=
  X 1 [9790, x1, 1] σ
def B_Model_symbols_1 (X : Nat → List Int → AMem → Prop) (Q : Int → AMem → Prop) (x1 x2 : Int) (σ : AMem) : Prop :=
  T_Model_sections [9790, x1] σ (fun r1 σ2 => (if x2 < r1 then
  T_Model_type [9790, x1, x2] σ2 (fun r3 σ4 => (if r3 = 2 then
    Q x2 σ4
    else
    am_r32 (x2 + 1) ∧ X 1 [9790, x1, (x2 + 1)] σ4))
  else
  Q 0 σ2))
def B_Model_symbols : (Nat → List Int → AMem → Prop) → (Int → AMem → Prop) → Nat → List Int → AMem → Prop := fun X Q j v σ => am_sel [(am_v2 (fun t x1 σ => if t = 9790 then B_Model_symbols_0 X Q x1 σ else False)), (am_v3 (fun t x1 x2 σ => if t = 9790 then B_Model_symbols_1 X Q x1 x2 σ else False))] j v σ
def T_Model_symbols : List Int → AMem → (Int → AMem → Prop) → Prop := am_T B_Model_symbols
abbrev y_Model_symbols : MethodName := ⟨"LinkHouseModel", "symbols", "(I)I"⟩
def a_Model_symbols : AC := (196, (y_Model_symbols, prog_10_method_17_code, 3, (Option.some Jvm.ClassFile.FieldType.int)), [2, 0], 0, false, { frames := 3, cells := 0, slots := 0, locals := 93 }, T_Model_symbols)
set_option maxRecDepth 100000 in
theorem ms_Model_symbols : am_MSp a_Model_symbols := am_ms_v 8189 9 8188 106010 8 rfl (by decide +kernel)
abbrev k_Model_symbols : List AC := [a_Model_sections, a_Model_type]
set_option maxRecDepth 100000 in
theorem s_Model_symbols : (am_chkR { frames := 3, cells := 0, slots := 0, locals := 93 } k_Model_symbols && am_chkN c_Model_symbols { frames := 3, cells := 0, slots := 0, locals := 93 } && c_Model_symbols.all (am_chk "LinkHouseModel" prog_10_method_17_code 3 (Option.some Jvm.ClassFile.FieldType.int) k_Model_symbols) && c_Model_symbols.all (am_chkL m_Model_symbols) && decide (m_Model_symbols[0]? = some (0, am_argp 0 [2, 0], [])) && decide (am_argn [2, 0] ≤ 3)) = true := by decide +kernel
set_option maxHeartbeats 150000 in
set_option maxRecDepth 100000 in
theorem h_Model_symbols : ∀ X Q j v σ, B_Model_symbols X Q j v σ → am_at GR k_Model_symbols c_Model_symbols m_Model_symbols X Q 25 j v σ := fun X Q => am_sel_all (P := fun j v σ => am_at GR k_Model_symbols c_Model_symbols m_Model_symbols X Q 25 j v σ) (⟨(am_v2_of (fun t x1 σ h => am_tk (fun e => by subst e; exact fun h => h) h)), ⟨(am_v3_of (fun t x1 x2 σ h => am_tk (fun e => by subst e; exact fun h => h) h)), trivial⟩⟩)
set_option maxRecDepth 100000 in
theorem S_Model_symbols (l : Launch) (w : AW) : am_S l w GR a_Model_symbols := am_sound (rt := 0) (cal := k_Model_symbols) 196 y_Model_symbols prog_10_method_17_code 3 (Option.some Jvm.ClassFile.FieldType.int) [2, 0] false { frames := 3, cells := 0, slots := 0, locals := 93 } B_Model_symbols "LinkHouseModel" c_Model_symbols m_Model_symbols 25 ms_Model_symbols (by decide +kernel) rfl rfl (am_cal (S_Model_sections l w) (am_cal (S_Model_type l w) (fun _ h => absurd h List.not_mem_nil))) s_Model_symbols h_Model_symbols
set_option maxRecDepth 100000 in
theorem of_Model_symbols {Q : Int → AMem → Prop} {x1 : Int} {σ : AMem} (h : ∀ X : Nat → List Int → AMem → Prop, (∀ (x1 : Int) (σ : AMem), B_Model_symbols_0 X Q x1 σ → X 0 [9790, x1] σ) → (∀ (x1 x2 : Int) (σ : AMem), B_Model_symbols_1 X Q x1 x2 σ → X 1 [9790, x1, x2] σ) → X 0 [9790, x1] σ) : T_Model_symbols [9790, x1] σ Q := fun X hX => h X (fun x1 σ h => hX 0 [9790, x1] σ h) (fun x1 x2 σ h => hX 1 [9790, x1, x2] σ h)
def c_Model_linkOf : List aE := [(0, 1, .aload_n 0, 1, 0, 0, []), (1, 0, .aload_n 0, 1, 0, 0, []), (2, 0, .iload_n 1, 1, 0, 0, []), (3, 0, .iload_n 2, 1, 0, 0, []), (4, 0, .invokevirtual 295, 3, 187, 8, [8147]), (7, 0, .bipush 40, 2, 0, 0, []), (9, 0, .iadd, 1, 0, 0, []), (10, 0, .iconst 4, 1, 0, 0, []), (11, 0, .invokevirtual 291, 3, 183, 8, [8120]), (14, 0, .lreturn, 1, 0, 0, [])]
def m_Model_linkOf : List aT := [(0, [(0, 2), (1, 0), (2, 0)], [])]
def B_Model_linkOf_0 (X : Nat → List Int → AMem → Prop) (Q : Int → AMem → Prop) (x1 x2 : Int) (σ : AMem) : Prop :=
  T_Model_row [9790, x1, x2] σ (fun r1 σ2 => am_r32 (r1 + 40) ∧ T_Model_num [9790, (r1 + 40), 4] σ2 (fun r3 σ4 => Q r3 σ4))
def B_Model_linkOf : (Nat → List Int → AMem → Prop) → (Int → AMem → Prop) → Nat → List Int → AMem → Prop := fun X Q j v σ => am_sel [(am_v3 (fun t x1 x2 σ => if t = 9790 then B_Model_linkOf_0 X Q x1 x2 σ else False))] j v σ
def T_Model_linkOf : List Int → AMem → (Int → AMem → Prop) → Prop := am_T B_Model_linkOf
abbrev y_Model_linkOf : MethodName := ⟨"LinkHouseModel", "linkOf", "(II)J"⟩
def a_Model_linkOf : AC := (197, (y_Model_linkOf, prog_10_method_12_code, 3, (Option.some Jvm.ClassFile.FieldType.long)), [2, 0, 0], 1, false, { frames := 2, cells := 0, slots := 0, locals := 63 }, T_Model_linkOf)
set_option maxRecDepth 100000 in
theorem ms_Model_linkOf : am_MSp a_Model_linkOf := am_ms_v 8195 9 8194 106011 8 rfl (by decide +kernel)
abbrev k_Model_linkOf : List AC := [a_Model_row, a_Model_num]
set_option maxRecDepth 100000 in
theorem s_Model_linkOf : (am_chkR { frames := 2, cells := 0, slots := 0, locals := 63 } k_Model_linkOf && am_chkN c_Model_linkOf { frames := 2, cells := 0, slots := 0, locals := 63 } && c_Model_linkOf.all (am_chk "LinkHouseModel" prog_10_method_12_code 3 (Option.some Jvm.ClassFile.FieldType.long) k_Model_linkOf) && c_Model_linkOf.all (am_chkL m_Model_linkOf) && decide (m_Model_linkOf[0]? = some (0, am_argp 0 [2, 0, 0], [])) && decide (am_argn [2, 0, 0] ≤ 3)) = true := by decide +kernel
set_option maxHeartbeats 150000 in
set_option maxRecDepth 100000 in
theorem h_Model_linkOf : ∀ X Q j v σ, B_Model_linkOf X Q j v σ → am_at GR k_Model_linkOf c_Model_linkOf m_Model_linkOf X Q 20 j v σ := fun X Q => am_sel_all (P := fun j v σ => am_at GR k_Model_linkOf c_Model_linkOf m_Model_linkOf X Q 20 j v σ) (⟨(am_v3_of (fun t x1 x2 σ h => am_tk (fun e => by subst e; exact fun h => h) h)), trivial⟩)
set_option maxRecDepth 100000 in
theorem S_Model_linkOf (l : Launch) (w : AW) : am_S l w GR a_Model_linkOf := am_sound (rt := 1) (cal := k_Model_linkOf) 197 y_Model_linkOf prog_10_method_12_code 3 (Option.some Jvm.ClassFile.FieldType.long) [2, 0, 0] false { frames := 2, cells := 0, slots := 0, locals := 63 } B_Model_linkOf "LinkHouseModel" c_Model_linkOf m_Model_linkOf 20 ms_Model_linkOf (by decide +kernel) rfl rfl (am_cal (S_Model_row l w) (am_cal (S_Model_num l w) (fun _ h => absurd h List.not_mem_nil))) s_Model_linkOf h_Model_linkOf
set_option maxRecDepth 100000 in
theorem of_Model_linkOf {Q : Int → AMem → Prop} {x1 x2 : Int} {σ : AMem} (h : ∀ X : Nat → List Int → AMem → Prop, (∀ (x1 x2 : Int) (σ : AMem), B_Model_linkOf_0 X Q x1 x2 σ → X 0 [9790, x1, x2] σ) → X 0 [9790, x1, x2] σ) : T_Model_linkOf [9790, x1, x2] σ Q := fun X hX => h X (fun x1 x2 σ h => hX 0 [9790, x1, x2] σ h)
set_option maxRecDepth 100000 in
theorem iff_Model_linkOf {Q : Int → AMem → Prop} {X : Nat → List Int → AMem → Prop} {x1 x2 : Int} {σ : AMem} : T_Model_linkOf [9790, x1, x2] σ Q ↔ B_Model_linkOf_0 X Q x1 x2 σ := ⟨fun h => h (fun j v σ => B_Model_linkOf X Q j v σ) (fun _ _ _ q => q), fun h _ hX => hX 0 _ _ h⟩
def c_Model_symbolMany : List aE := [(0, 1, .aload_n 0, 1, 0, 0, []), (1, 0, .iload_n 1, 1, 0, 0, []), (2, 0, .invokevirtual 317, 3, 196, 8, [8186]), (5, 0, .istore_n 2, 1, 0, 0, []), (6, 0, .iload_n 2, 1, 0, 0, []), (7, 0, .ifCond .ne 7, 3, 0, 0, []), (10, 0, .iconst 0, 1, 0, 0, []), (11, 0, .goto 13, 3, 0, 0, []), (14, 0, .aload_n 0, 1, 0, 0, []), (15, 0, .iload_n 1, 1, 0, 0, []), (16, 0, .iload_n 2, 1, 0, 0, []), (17, 0, .invokevirtual 320, 3, 190, 8, [8160]), (20, 0, .l2i, 1, 0, 0, []), (21, 0, .bipush 24, 2, 0, 0, []), (23, 0, .idiv, 1, 0, 0, []), (24, 0, .ireturn, 1, 0, 0, [])]
def m_Model_symbolMany : List aT := [(0, [(0, 2), (1, 0)], [])]
def B_Model_symbolMany_0 (X : Nat → List Int → AMem → Prop) (Q : Int → AMem → Prop) (x1 : Int) (σ : AMem) : Prop :=
  T_Model_symbols [9790, x1] σ (fun r1 σ2 => (if r1 = 0 then
  Q 0 σ2
  else
  T_Model_size [9790, x1, r1] σ2 (fun r3 σ4 => (0 : Int) < 24 ∧ Q ((w32 r3).tdiv 24) σ4)))
def B_Model_symbolMany : (Nat → List Int → AMem → Prop) → (Int → AMem → Prop) → Nat → List Int → AMem → Prop := fun X Q j v σ => am_sel [(am_v2 (fun t x1 σ => if t = 9790 then B_Model_symbolMany_0 X Q x1 σ else False))] j v σ
def T_Model_symbolMany : List Int → AMem → (Int → AMem → Prop) → Prop := am_T B_Model_symbolMany
abbrev y_Model_symbolMany : MethodName := ⟨"LinkHouseModel", "symbolMany", "(I)I"⟩
def a_Model_symbolMany : AC := (198, (y_Model_symbolMany, prog_10_method_18_code, 3, (Option.some Jvm.ClassFile.FieldType.int)), [2, 0], 0, false, { frames := 4, cells := 0, slots := 0, locals := 123 }, T_Model_symbolMany)
set_option maxRecDepth 100000 in
theorem ms_Model_symbolMany : am_MSp a_Model_symbolMany := am_ms_v 8200 9 8199 106012 8 rfl (by decide +kernel)
abbrev k_Model_symbolMany : List AC := [a_Model_symbols, a_Model_size]
set_option maxRecDepth 100000 in
theorem s_Model_symbolMany : (am_chkR { frames := 4, cells := 0, slots := 0, locals := 123 } k_Model_symbolMany && am_chkN c_Model_symbolMany { frames := 4, cells := 0, slots := 0, locals := 123 } && c_Model_symbolMany.all (am_chk "LinkHouseModel" prog_10_method_18_code 3 (Option.some Jvm.ClassFile.FieldType.int) k_Model_symbolMany) && c_Model_symbolMany.all (am_chkL m_Model_symbolMany) && decide (m_Model_symbolMany[0]? = some (0, am_argp 0 [2, 0], [])) && decide (am_argn [2, 0] ≤ 3)) = true := by decide +kernel
set_option maxHeartbeats 150000 in
set_option maxRecDepth 100000 in
theorem h_Model_symbolMany : ∀ X Q j v σ, B_Model_symbolMany X Q j v σ → am_at GR k_Model_symbolMany c_Model_symbolMany m_Model_symbolMany X Q 21 j v σ := fun X Q => am_sel_all (P := fun j v σ => am_at GR k_Model_symbolMany c_Model_symbolMany m_Model_symbolMany X Q 21 j v σ) (⟨(am_v2_of (fun t x1 σ h => am_tk (fun e => by subst e; exact fun h => h) h)), trivial⟩)
set_option maxRecDepth 100000 in
theorem S_Model_symbolMany (l : Launch) (w : AW) : am_S l w GR a_Model_symbolMany := am_sound (rt := 0) (cal := k_Model_symbolMany) 198 y_Model_symbolMany prog_10_method_18_code 3 (Option.some Jvm.ClassFile.FieldType.int) [2, 0] false { frames := 4, cells := 0, slots := 0, locals := 123 } B_Model_symbolMany "LinkHouseModel" c_Model_symbolMany m_Model_symbolMany 21 ms_Model_symbolMany (by decide +kernel) rfl rfl (am_cal (S_Model_symbols l w) (am_cal (S_Model_size l w) (fun _ h => absurd h List.not_mem_nil))) s_Model_symbolMany h_Model_symbolMany
set_option maxRecDepth 100000 in
theorem of_Model_symbolMany {Q : Int → AMem → Prop} {x1 : Int} {σ : AMem} (h : ∀ X : Nat → List Int → AMem → Prop, (∀ (x1 : Int) (σ : AMem), B_Model_symbolMany_0 X Q x1 σ → X 0 [9790, x1] σ) → X 0 [9790, x1] σ) : T_Model_symbolMany [9790, x1] σ Q := fun X hX => h X (fun x1 σ h => hX 0 [9790, x1] σ h)
set_option maxRecDepth 100000 in
theorem iff_Model_symbolMany {Q : Int → AMem → Prop} {X : Nat → List Int → AMem → Prop} {x1 : Int} {σ : AMem} : T_Model_symbolMany [9790, x1] σ Q ↔ B_Model_symbolMany_0 X Q x1 σ := ⟨fun h => h (fun j v σ => B_Model_symbolMany X Q j v σ) (fun _ _ _ q => q), fun h _ hX => hX 0 _ _ h⟩
def c_Model_symbol : List aE := [(0, 1, .iload_n 1, 1, 0, 0, []), (1, 0, .aload_n 0, 1, 0, 0, []), (2, 0, .iload_n 1, 1, 0, 0, []), (3, 0, .aload_n 0, 1, 0, 0, []), (4, 0, .iload_n 1, 1, 0, 0, []), (5, 0, .invokevirtual 317, 3, 196, 8, [8186]), (8, 0, .invokevirtual 323, 3, 189, 8, [8156]), (11, 0, .l2i, 1, 0, 0, []), (12, 0, .iadd, 1, 0, 0, []), (13, 0, .bipush 24, 2, 0, 0, []), (15, 0, .iload_n 2, 1, 0, 0, []), (16, 0, .imul, 1, 0, 0, []), (17, 0, .iadd, 1, 0, 0, []), (18, 0, .ireturn, 1, 0, 0, [])]
def m_Model_symbol : List aT := [(0, [(0, 2), (1, 0), (2, 0)], [])]
def B_Model_symbol_0 (X : Nat → List Int → AMem → Prop) (Q : Int → AMem → Prop) (x1 x2 : Int) (σ : AMem) : Prop :=
  T_Model_symbols [9790, x1] σ (fun r1 σ2 => T_Model_beginning [9790, x1, r1] σ2 (fun r3 σ4 => am_r32 (x1 + (w32 r3)) ∧ am_r32 (24 * x2) ∧ am_r32 ((x1 + (w32 r3)) + (24 * x2)) ∧ Q ((x1 + (w32 r3)) + (24 * x2)) σ4))
def B_Model_symbol : (Nat → List Int → AMem → Prop) → (Int → AMem → Prop) → Nat → List Int → AMem → Prop := fun X Q j v σ => am_sel [(am_v3 (fun t x1 x2 σ => if t = 9790 then B_Model_symbol_0 X Q x1 x2 σ else False))] j v σ
def T_Model_symbol : List Int → AMem → (Int → AMem → Prop) → Prop := am_T B_Model_symbol
abbrev y_Model_symbol : MethodName := ⟨"LinkHouseModel", "symbol", "(II)I"⟩
def a_Model_symbol : AC := (199, (y_Model_symbol, prog_10_method_19_code, 3, (Option.some Jvm.ClassFile.FieldType.int)), [2, 0, 0], 0, false, { frames := 4, cells := 0, slots := 0, locals := 123 }, T_Model_symbol)
set_option maxRecDepth 100000 in
theorem ms_Model_symbol : am_MSp a_Model_symbol := am_ms_v 8212 9 8211 106015 8 rfl (by decide +kernel)
abbrev k_Model_symbol : List AC := [a_Model_symbols, a_Model_beginning]
set_option maxRecDepth 100000 in
theorem s_Model_symbol : (am_chkR { frames := 4, cells := 0, slots := 0, locals := 123 } k_Model_symbol && am_chkN c_Model_symbol { frames := 4, cells := 0, slots := 0, locals := 123 } && c_Model_symbol.all (am_chk "LinkHouseModel" prog_10_method_19_code 3 (Option.some Jvm.ClassFile.FieldType.int) k_Model_symbol) && c_Model_symbol.all (am_chkL m_Model_symbol) && decide (m_Model_symbol[0]? = some (0, am_argp 0 [2, 0, 0], [])) && decide (am_argn [2, 0, 0] ≤ 3)) = true := by decide +kernel
set_option maxHeartbeats 150000 in
set_option maxRecDepth 100000 in
theorem h_Model_symbol : ∀ X Q j v σ, B_Model_symbol X Q j v σ → am_at GR k_Model_symbol c_Model_symbol m_Model_symbol X Q 20 j v σ := fun X Q => am_sel_all (P := fun j v σ => am_at GR k_Model_symbol c_Model_symbol m_Model_symbol X Q 20 j v σ) (⟨(am_v3_of (fun t x1 x2 σ h => am_tk (fun e => by subst e; exact fun h => h) h)), trivial⟩)
set_option maxRecDepth 100000 in
theorem S_Model_symbol (l : Launch) (w : AW) : am_S l w GR a_Model_symbol := am_sound (rt := 0) (cal := k_Model_symbol) 199 y_Model_symbol prog_10_method_19_code 3 (Option.some Jvm.ClassFile.FieldType.int) [2, 0, 0] false { frames := 4, cells := 0, slots := 0, locals := 123 } B_Model_symbol "LinkHouseModel" c_Model_symbol m_Model_symbol 20 ms_Model_symbol (by decide +kernel) rfl rfl (am_cal (S_Model_symbols l w) (am_cal (S_Model_beginning l w) (fun _ h => absurd h List.not_mem_nil))) s_Model_symbol h_Model_symbol
set_option maxRecDepth 100000 in
theorem of_Model_symbol {Q : Int → AMem → Prop} {x1 x2 : Int} {σ : AMem} (h : ∀ X : Nat → List Int → AMem → Prop, (∀ (x1 x2 : Int) (σ : AMem), B_Model_symbol_0 X Q x1 x2 σ → X 0 [9790, x1, x2] σ) → X 0 [9790, x1, x2] σ) : T_Model_symbol [9790, x1, x2] σ Q := fun X hX => h X (fun x1 x2 σ h => hX 0 [9790, x1, x2] σ h)
set_option maxRecDepth 100000 in
theorem iff_Model_symbol {Q : Int → AMem → Prop} {X : Nat → List Int → AMem → Prop} {x1 x2 : Int} {σ : AMem} : T_Model_symbol [9790, x1, x2] σ Q ↔ B_Model_symbol_0 X Q x1 x2 σ := ⟨fun h => h (fun j v σ => B_Model_symbol X Q j v σ) (fun _ _ _ q => q), fun h _ hX => hX 0 _ _ h⟩
def c_Model_where : List aE := [(0, 1, .aload_n 0, 1, 0, 0, []), (1, 0, .aload_n 0, 1, 0, 0, []), (2, 0, .iload_n 1, 1, 0, 0, []), (3, 0, .iload_n 2, 1, 0, 0, []), (4, 0, .invokevirtual 326, 3, 199, 8, [8209]), (7, 0, .bipush 6, 2, 0, 0, []), (9, 0, .iadd, 1, 0, 0, []), (10, 0, .iconst 2, 1, 0, 0, []), (11, 0, .invokevirtual 291, 3, 183, 8, [8120]), (14, 0, .l2i, 1, 0, 0, []), (15, 0, .ireturn, 1, 0, 0, [])]
def m_Model_where : List aT := [(0, [(0, 2), (1, 0), (2, 0)], [])]
def B_Model_where_0 (X : Nat → List Int → AMem → Prop) (Q : Int → AMem → Prop) (x1 x2 : Int) (σ : AMem) : Prop :=
  T_Model_symbol [9790, x1, x2] σ (fun r1 σ2 => am_r32 (r1 + 6) ∧ T_Model_num [9790, (r1 + 6), 2] σ2 (fun r3 σ4 => Q (w32 r3) σ4))
def B_Model_where : (Nat → List Int → AMem → Prop) → (Int → AMem → Prop) → Nat → List Int → AMem → Prop := fun X Q j v σ => am_sel [(am_v3 (fun t x1 x2 σ => if t = 9790 then B_Model_where_0 X Q x1 x2 σ else False))] j v σ
def T_Model_where : List Int → AMem → (Int → AMem → Prop) → Prop := am_T B_Model_where
abbrev y_Model_where : MethodName := ⟨"LinkHouseModel", "where", "(II)I"⟩
def a_Model_where : AC := (200, (y_Model_where, prog_10_method_21_code, 3, (Option.some Jvm.ClassFile.FieldType.int)), [2, 0, 0], 0, false, { frames := 5, cells := 0, slots := 0, locals := 153 }, T_Model_where)
set_option maxRecDepth 100000 in
theorem ms_Model_where : am_MSp a_Model_where := am_ms_v 8208 9 8207 106014 8 rfl (by decide +kernel)
abbrev k_Model_where : List AC := [a_Model_symbol, a_Model_num]
set_option maxRecDepth 100000 in
theorem s_Model_where : (am_chkR { frames := 5, cells := 0, slots := 0, locals := 153 } k_Model_where && am_chkN c_Model_where { frames := 5, cells := 0, slots := 0, locals := 153 } && c_Model_where.all (am_chk "LinkHouseModel" prog_10_method_21_code 3 (Option.some Jvm.ClassFile.FieldType.int) k_Model_where) && c_Model_where.all (am_chkL m_Model_where) && decide (m_Model_where[0]? = some (0, am_argp 0 [2, 0, 0], [])) && decide (am_argn [2, 0, 0] ≤ 3)) = true := by decide +kernel
set_option maxHeartbeats 150000 in
set_option maxRecDepth 100000 in
theorem h_Model_where : ∀ X Q j v σ, B_Model_where X Q j v σ → am_at GR k_Model_where c_Model_where m_Model_where X Q 20 j v σ := fun X Q => am_sel_all (P := fun j v σ => am_at GR k_Model_where c_Model_where m_Model_where X Q 20 j v σ) (⟨(am_v3_of (fun t x1 x2 σ h => am_tk (fun e => by subst e; exact fun h => h) h)), trivial⟩)
set_option maxRecDepth 100000 in
theorem S_Model_where (l : Launch) (w : AW) : am_S l w GR a_Model_where := am_sound (rt := 0) (cal := k_Model_where) 200 y_Model_where prog_10_method_21_code 3 (Option.some Jvm.ClassFile.FieldType.int) [2, 0, 0] false { frames := 5, cells := 0, slots := 0, locals := 153 } B_Model_where "LinkHouseModel" c_Model_where m_Model_where 20 ms_Model_where (by decide +kernel) rfl rfl (am_cal (S_Model_symbol l w) (am_cal (S_Model_num l w) (fun _ h => absurd h List.not_mem_nil))) s_Model_where h_Model_where
set_option maxRecDepth 100000 in
theorem of_Model_where {Q : Int → AMem → Prop} {x1 x2 : Int} {σ : AMem} (h : ∀ X : Nat → List Int → AMem → Prop, (∀ (x1 x2 : Int) (σ : AMem), B_Model_where_0 X Q x1 x2 σ → X 0 [9790, x1, x2] σ) → X 0 [9790, x1, x2] σ) : T_Model_where [9790, x1, x2] σ Q := fun X hX => h X (fun x1 x2 σ h => hX 0 [9790, x1, x2] σ h)
set_option maxRecDepth 100000 in
theorem iff_Model_where {Q : Int → AMem → Prop} {X : Nat → List Int → AMem → Prop} {x1 x2 : Int} {σ : AMem} : T_Model_where [9790, x1, x2] σ Q ↔ B_Model_where_0 X Q x1 x2 σ := ⟨fun h => h (fun j v σ => B_Model_where X Q j v σ) (fun _ _ _ q => q), fun h _ hX => hX 0 _ _ h⟩
def c_Model_bind : List aE := [(0, 1, .aload_n 0, 1, 0, 0, []), (1, 0, .getfield 17, 3, 8, 6, [2, 0, 6195]), (4, 0, .aload_n 0, 1, 0, 0, []), (5, 0, .iload_n 1, 1, 0, 0, []), (6, 0, .iload_n 2, 1, 0, 0, []), (7, 0, .invokevirtual 326, 3, 199, 8, [8209]), (10, 0, .iconst 4, 1, 0, 0, []), (11, 0, .iadd, 1, 0, 0, []), (12, 0, .baload, 1, 2, 0, []), (13, 0, .iconst 4, 1, 0, 0, []), (14, 0, .ishr, 1, 0, 0, []), (15, 0, .bipush 15, 2, 0, 0, []), (17, 0, .iand, 1, 0, 0, []), (18, 0, .ireturn, 1, 0, 0, [])]
def m_Model_bind : List aT := [(0, [(0, 2), (1, 0), (2, 0)], [])]
def B_Model_bind_0 (X : Nat → List Int → AMem → Prop) (Q : Int → AMem → Prop) (x1 x2 : Int) (σ : AMem) : Prop :=
  T_Model_symbol [9790, x1, x2] σ (fun r1 σ2 => am_r32 (r1 + 4) ∧ 0 ≤ (r1 + 4) ∧ (r1 + 4) < 65536 ∧ Q (i_and (i_shr (σ2 9793 (r1 + 4)) 4) 15) σ2)
def B_Model_bind : (Nat → List Int → AMem → Prop) → (Int → AMem → Prop) → Nat → List Int → AMem → Prop := fun X Q j v σ => am_sel [(am_v3 (fun t x1 x2 σ => if t = 9790 then B_Model_bind_0 X Q x1 x2 σ else False))] j v σ
def T_Model_bind : List Int → AMem → (Int → AMem → Prop) → Prop := am_T B_Model_bind
abbrev y_Model_bind : MethodName := ⟨"LinkHouseModel", "bind", "(II)I"⟩
def a_Model_bind : AC := (201, (y_Model_bind, prog_10_method_20_code, 3, (Option.some Jvm.ClassFile.FieldType.int)), [2, 0, 0], 0, false, { frames := 5, cells := 0, slots := 0, locals := 153 }, T_Model_bind)
set_option maxRecDepth 100000 in
theorem ms_Model_bind : am_MSp a_Model_bind := am_ms_v 8216 9 8215 107000 8 rfl (by decide +kernel)
abbrev k_Model_bind : List AC := [a_Model_symbol]
set_option maxRecDepth 100000 in
theorem s_Model_bind : (am_chkR { frames := 5, cells := 0, slots := 0, locals := 153 } k_Model_bind && am_chkN c_Model_bind { frames := 5, cells := 0, slots := 0, locals := 153 } && c_Model_bind.all (am_chk "LinkHouseModel" prog_10_method_20_code 3 (Option.some Jvm.ClassFile.FieldType.int) k_Model_bind) && c_Model_bind.all (am_chkL m_Model_bind) && decide (m_Model_bind[0]? = some (0, am_argp 0 [2, 0, 0], [])) && decide (am_argn [2, 0, 0] ≤ 3)) = true := by decide +kernel
set_option maxHeartbeats 150000 in
set_option maxRecDepth 100000 in
theorem h_Model_bind : ∀ X Q j v σ, B_Model_bind X Q j v σ → am_at GR k_Model_bind c_Model_bind m_Model_bind X Q 20 j v σ := fun X Q => am_sel_all (P := fun j v σ => am_at GR k_Model_bind c_Model_bind m_Model_bind X Q 20 j v σ) (⟨(am_v3_of (fun t x1 x2 σ h => am_tk (fun e => by subst e; exact fun h => h) h)), trivial⟩)
set_option maxRecDepth 100000 in
theorem S_Model_bind (l : Launch) (w : AW) : am_S l w GR a_Model_bind := am_sound (rt := 0) (cal := k_Model_bind) 201 y_Model_bind prog_10_method_20_code 3 (Option.some Jvm.ClassFile.FieldType.int) [2, 0, 0] false { frames := 5, cells := 0, slots := 0, locals := 153 } B_Model_bind "LinkHouseModel" c_Model_bind m_Model_bind 20 ms_Model_bind (by decide +kernel) rfl rfl (am_cal (S_Model_symbol l w) (fun _ h => absurd h List.not_mem_nil)) s_Model_bind h_Model_bind
set_option maxRecDepth 100000 in
theorem of_Model_bind {Q : Int → AMem → Prop} {x1 x2 : Int} {σ : AMem} (h : ∀ X : Nat → List Int → AMem → Prop, (∀ (x1 x2 : Int) (σ : AMem), B_Model_bind_0 X Q x1 x2 σ → X 0 [9790, x1, x2] σ) → X 0 [9790, x1, x2] σ) : T_Model_bind [9790, x1, x2] σ Q := fun X hX => h X (fun x1 x2 σ h => hX 0 [9790, x1, x2] σ h)
set_option maxRecDepth 100000 in
theorem iff_Model_bind {Q : Int → AMem → Prop} {X : Nat → List Int → AMem → Prop} {x1 x2 : Int} {σ : AMem} : T_Model_bind [9790, x1, x2] σ Q ↔ B_Model_bind_0 X Q x1 x2 σ := ⟨fun h => h (fun j v σ => B_Model_bind X Q j v σ) (fun _ _ _ q => q), fun h _ hX => hX 0 _ _ h⟩
def c_Model_isName : List aE := [(0, 1, .aload_n 0, 1, 0, 0, []), (1, 0, .iload_n 1, 1, 0, 0, []), (2, 0, .aload_n 0, 1, 0, 0, []), (3, 0, .iload_n 1, 1, 0, 0, []), (4, 0, .invokevirtual 317, 3, 196, 8, [8186]), (7, 0, .invokevirtual 329, 3, 197, 8, [8192]), (10, 0, .l2i, 1, 0, 0, []), (11, 0, .istore_n 3, 1, 0, 0, []), (12, 0, .aload_n 0, 1, 0, 0, []), (13, 0, .aload_n 0, 1, 0, 0, []), (14, 0, .iload_n 1, 1, 0, 0, []), (15, 0, .iload_n 2, 1, 0, 0, []), (16, 0, .invokevirtual 326, 3, 199, 8, [8209]), (19, 0, .iconst 4, 1, 0, 0, []), (20, 0, .invokevirtual 291, 3, 183, 8, [8120]), (23, 0, .lstore 4, 2, 0, 0, []), (25, 0, .aload_n 0, 1, 0, 0, []), (26, 0, .iload_n 1, 1, 0, 0, []), (27, 0, .iload_n 3, 1, 0, 0, []), (28, 0, .invokevirtual 320, 3, 190, 8, [8160]), (31, 0, .lstore 6, 2, 0, 0, []), (33, 0, .iconst 0, 1, 0, 0, []), (34, 0, .istore 8, 2, 0, 0, []), (36, 2, .lload 4, 2, 0, 0, []), (38, 0, .iload 8, 2, 0, 0, []), (40, 0, .i2l, 1, 0, 0, []), (41, 0, .ladd, 1, 0, 0, []), (42, 0, .lload 6, 2, 0, 0, []), (44, 0, .lcmp, 1, 0, 0, []), (45, 0, .ifCond .ge 40, 3, 0, 0, []), (48, 0, .iload 8, 2, 0, 0, []), (50, 0, .bipush 20, 2, 0, 0, []), (52, 0, .if_icmp .gt 33, 3, 0, 0, []), (55, 0, .aload_n 0, 1, 0, 0, []), (56, 0, .getfield 17, 3, 8, 6, [2, 0, 6195]), (59, 0, .iload_n 1, 1, 0, 0, []), (60, 0, .aload_n 0, 1, 0, 0, []), (61, 0, .iload_n 1, 1, 0, 0, []), (62, 0, .iload_n 3, 1, 0, 0, []), (63, 0, .invokevirtual 323, 3, 189, 8, [8156]), (66, 0, .l2i, 1, 0, 0, []), (67, 0, .iadd, 1, 0, 0, []), (68, 0, .lload 4, 2, 0, 0, []), (70, 0, .l2i, 1, 0, 0, []), (71, 0, .iadd, 1, 0, 0, []), (72, 0, .iload 8, 2, 0, 0, []), (74, 0, .iadd, 1, 0, 0, []), (75, 0, .baload, 1, 2, 0, []), (76, 0, .ifCond .eq 9, 3, 0, 0, []), (79, 0, .iinc 8 1, 3, 0, 0, []), (82, 0, .goto (-46), 3, 0, 0, []), (85, 3, .lload 4, 2, 0, 0, []), (87, 0, .iload 8, 2, 0, 0, []), (89, 0, .i2l, 1, 0, 0, []), (90, 0, .ladd, 1, 0, 0, []), (91, 0, .lload 6, 2, 0, 0, []), (93, 0, .lcmp, 1, 0, 0, []), (94, 0, .ifCond .ge 19, 3, 0, 0, []), (97, 0, .iload 8, 2, 0, 0, []), (99, 0, .ifCond .le 14, 3, 0, 0, []), (102, 0, .iload 8, 2, 0, 0, []), (104, 0, .bipush 20, 2, 0, 0, []), (106, 0, .if_icmp .gt 7, 3, 0, 0, []), (109, 0, .iconst 1, 1, 0, 0, []), (110, 0, .goto 4, 3, 0, 0, []), (113, 0, .iconst 0, 1, 0, 0, []), (114, 0, .ireturn, 1, 1, 0, [])]
def m_Model_isName : List aT := [(0, [(0, 2), (1, 0), (2, 0)], []), (36, [(0, 2), (1, 0), (3, 0), (4, 1), (6, 1), (8, 0)], []), (85, [(4, 1), (6, 1), (8, 0)], [])]
def B_Model_isName_0 (X : Nat → List Int → AMem → Prop) (Q : Int → AMem → Prop) (x1 x2 : Int) (σ : AMem) : Prop :=
  T_Model_symbols [9790, x1] σ (fun r1 σ2 => T_Model_linkOf [9790, x1, r1] σ2 (fun r3 σ4 => T_Model_symbol [9790, x1, x2] σ4 (fun r5 σ6 => T_Model_num [9790, r5, 4] σ6 (fun r7 σ8 => T_Model_size [9790, x1, (w32 r3)] σ8 (fun r9 σ10 => X 1 [9790, x1, (w32 r3), r7, r9, 0] σ10)))))
def B_Model_isName_1 (X : Nat → List Int → AMem → Prop) (Q : Int → AMem → Prop) (x1 x3 x4 x6 x8 : Int) (σ : AMem) : Prop :=
  (if (w64 (x4 + x8)) < x6 then
  (if 20 < x8 then
    X 2 [x4, x6, x8] σ
    else
    T_Model_beginning [9790, x1, x3] σ (fun r1 σ2 => am_r32 (x1 + (w32 r1)) ∧ am_r32 ((x1 + (w32 r1)) + (w32 x4)) ∧ am_r32 (((x1 + (w32 r1)) + (w32 x4)) + x8) ∧ 0 ≤ (((x1 + (w32 r1)) + (w32 x4)) + x8) ∧ (((x1 + (w32 r1)) + (w32 x4)) + x8) < 65536 ∧ (if (σ2 9793 (((x1 + (w32 r1)) + (w32 x4)) + x8)) = 0 then
      X 2 [x4, x6, x8] σ2
      else
      am_r32 (x8 + 1) ∧ X 1 [9790, x1, x3, x4, x6, (x8 + 1)] σ2)))
  else
  X 2 [x4, x6, x8] σ)
def B_Model_isName_2 (X : Nat → List Int → AMem → Prop) (Q : Int → AMem → Prop) (x4 x6 x8 : Int) (σ : AMem) : Prop :=
  (if (w64 (x4 + x8)) < x6 then
  (if 0 < x8 then
    (if 20 < x8 then
      Q 0 σ
      else
      Q 1 σ)
    else
    Q 0 σ)
  else
  Q 0 σ)
def B_Model_isName : (Nat → List Int → AMem → Prop) → (Int → AMem → Prop) → Nat → List Int → AMem → Prop := fun X Q j v σ => am_sel [(am_v3 (fun t x1 x2 σ => if t = 9790 then B_Model_isName_0 X Q x1 x2 σ else False)), (am_v6 (fun t x1 x3 x4 x6 x8 σ => if t = 9790 then B_Model_isName_1 X Q x1 x3 x4 x6 x8 σ else False)), (am_v3 (fun x4 x6 x8 σ => B_Model_isName_2 X Q x4 x6 x8 σ))] j v σ
def T_Model_isName : List Int → AMem → (Int → AMem → Prop) → Prop := am_T B_Model_isName
abbrev y_Model_isName : MethodName := ⟨"LinkHouseModel", "isName", "(II)Z"⟩
def a_Model_isName : AC := (202, (y_Model_isName, prog_10_method_32_code, 9, (Option.some Jvm.ClassFile.FieldType.boolean)), [2, 0, 0], 0, false, { frames := 5, cells := 0, slots := 0, locals := 153 }, T_Model_isName)
set_option maxRecDepth 100000 in
theorem ms_Model_isName : am_MSp a_Model_isName := am_ms_v 8222 9 8221 107001 8 rfl (by decide +kernel)
abbrev k_Model_isName : List AC := [a_Model_symbols, a_Model_linkOf, a_Model_symbol, a_Model_num, a_Model_size, a_Model_beginning]
set_option maxRecDepth 100000 in
theorem s_Model_isName : (am_chkR { frames := 5, cells := 0, slots := 0, locals := 153 } k_Model_isName && am_chkN c_Model_isName { frames := 5, cells := 0, slots := 0, locals := 153 } && c_Model_isName.all (am_chk "LinkHouseModel" prog_10_method_32_code 9 (Option.some Jvm.ClassFile.FieldType.boolean) k_Model_isName) && c_Model_isName.all (am_chkL m_Model_isName) && decide (m_Model_isName[0]? = some (0, am_argp 0 [2, 0, 0], [])) && decide (am_argn [2, 0, 0] ≤ 9)) = true := by decide +kernel
set_option maxHeartbeats 150000 in
set_option maxRecDepth 100000 in
theorem h_Model_isName : ∀ X Q j v σ, B_Model_isName X Q j v σ → am_at GR k_Model_isName c_Model_isName m_Model_isName X Q 72 j v σ := fun X Q => am_sel_all (P := fun j v σ => am_at GR k_Model_isName c_Model_isName m_Model_isName X Q 72 j v σ) (⟨(am_v3_of (fun t x1 x2 σ h => am_tk (fun e => by subst e; exact fun h => h) h)), ⟨(am_v6_of (fun t x1 x3 x4 x6 x8 σ h => am_tk (fun e => by subst e; exact fun h => h) h)), ⟨(am_v3_of (fun x4 x6 x8 σ h => h)), trivial⟩⟩⟩)
set_option maxRecDepth 100000 in
theorem S_Model_isName (l : Launch) (w : AW) : am_S l w GR a_Model_isName := am_sound (rt := 0) (cal := k_Model_isName) 202 y_Model_isName prog_10_method_32_code 9 (Option.some Jvm.ClassFile.FieldType.boolean) [2, 0, 0] false { frames := 5, cells := 0, slots := 0, locals := 153 } B_Model_isName "LinkHouseModel" c_Model_isName m_Model_isName 72 ms_Model_isName (by decide +kernel) rfl rfl (am_cal (S_Model_symbols l w) (am_cal (S_Model_linkOf l w) (am_cal (S_Model_symbol l w) (am_cal (S_Model_num l w) (am_cal (S_Model_size l w) (am_cal (S_Model_beginning l w) (fun _ h => absurd h List.not_mem_nil))))))) s_Model_isName h_Model_isName
set_option maxRecDepth 100000 in
theorem of_Model_isName {Q : Int → AMem → Prop} {x1 x2 : Int} {σ : AMem} (h : ∀ X : Nat → List Int → AMem → Prop, (∀ (x1 x2 : Int) (σ : AMem), B_Model_isName_0 X Q x1 x2 σ → X 0 [9790, x1, x2] σ) → (∀ (x1 x3 x4 x6 x8 : Int) (σ : AMem), B_Model_isName_1 X Q x1 x3 x4 x6 x8 σ → X 1 [9790, x1, x3, x4, x6, x8] σ) → (∀ (x4 x6 x8 : Int) (σ : AMem), B_Model_isName_2 X Q x4 x6 x8 σ → X 2 [x4, x6, x8] σ) → X 0 [9790, x1, x2] σ) : T_Model_isName [9790, x1, x2] σ Q := fun X hX => h X (fun x1 x2 σ h => hX 0 [9790, x1, x2] σ h) (fun x1 x3 x4 x6 x8 σ h => hX 1 [9790, x1, x3, x4, x6, x8] σ h) (fun x4 x6 x8 σ h => hX 2 [x4, x6, x8] σ h)
def c_Model_value : List aE := [(0, 1, .aload_n 0, 1, 0, 0, []), (1, 0, .aload_n 0, 1, 0, 0, []), (2, 0, .iload_n 1, 1, 0, 0, []), (3, 0, .iload_n 2, 1, 0, 0, []), (4, 0, .invokevirtual 326, 3, 199, 8, [8209]), (7, 0, .bipush 8, 2, 0, 0, []), (9, 0, .iadd, 1, 0, 0, []), (10, 0, .bipush 8, 2, 0, 0, []), (12, 0, .invokevirtual 291, 3, 183, 8, [8120]), (15, 0, .lreturn, 1, 0, 0, [])]
def m_Model_value : List aT := [(0, [(0, 2), (1, 0), (2, 0)], [])]
def B_Model_value_0 (X : Nat → List Int → AMem → Prop) (Q : Int → AMem → Prop) (x1 x2 : Int) (σ : AMem) : Prop :=
  T_Model_symbol [9790, x1, x2] σ (fun r1 σ2 => am_r32 (r1 + 8) ∧ T_Model_num [9790, (r1 + 8), 8] σ2 (fun r3 σ4 => Q r3 σ4))
def B_Model_value : (Nat → List Int → AMem → Prop) → (Int → AMem → Prop) → Nat → List Int → AMem → Prop := fun X Q j v σ => am_sel [(am_v3 (fun t x1 x2 σ => if t = 9790 then B_Model_value_0 X Q x1 x2 σ else False))] j v σ
def T_Model_value : List Int → AMem → (Int → AMem → Prop) → Prop := am_T B_Model_value
abbrev y_Model_value : MethodName := ⟨"LinkHouseModel", "value", "(II)J"⟩
def a_Model_value : AC := (203, (y_Model_value, prog_10_method_22_code, 3, (Option.some Jvm.ClassFile.FieldType.long)), [2, 0, 0], 1, false, { frames := 5, cells := 0, slots := 0, locals := 153 }, T_Model_value)
set_option maxRecDepth 100000 in
theorem ms_Model_value : am_MSp a_Model_value := am_ms_v 8226 9 8225 107002 8 rfl (by decide +kernel)
abbrev k_Model_value : List AC := [a_Model_symbol, a_Model_num]
set_option maxRecDepth 100000 in
theorem s_Model_value : (am_chkR { frames := 5, cells := 0, slots := 0, locals := 153 } k_Model_value && am_chkN c_Model_value { frames := 5, cells := 0, slots := 0, locals := 153 } && c_Model_value.all (am_chk "LinkHouseModel" prog_10_method_22_code 3 (Option.some Jvm.ClassFile.FieldType.long) k_Model_value) && c_Model_value.all (am_chkL m_Model_value) && decide (m_Model_value[0]? = some (0, am_argp 0 [2, 0, 0], [])) && decide (am_argn [2, 0, 0] ≤ 3)) = true := by decide +kernel
set_option maxHeartbeats 150000 in
set_option maxRecDepth 100000 in
theorem h_Model_value : ∀ X Q j v σ, B_Model_value X Q j v σ → am_at GR k_Model_value c_Model_value m_Model_value X Q 20 j v σ := fun X Q => am_sel_all (P := fun j v σ => am_at GR k_Model_value c_Model_value m_Model_value X Q 20 j v σ) (⟨(am_v3_of (fun t x1 x2 σ h => am_tk (fun e => by subst e; exact fun h => h) h)), trivial⟩)
set_option maxRecDepth 100000 in
theorem S_Model_value (l : Launch) (w : AW) : am_S l w GR a_Model_value := am_sound (rt := 1) (cal := k_Model_value) 203 y_Model_value prog_10_method_22_code 3 (Option.some Jvm.ClassFile.FieldType.long) [2, 0, 0] false { frames := 5, cells := 0, slots := 0, locals := 153 } B_Model_value "LinkHouseModel" c_Model_value m_Model_value 20 ms_Model_value (by decide +kernel) rfl rfl (am_cal (S_Model_symbol l w) (am_cal (S_Model_num l w) (fun _ h => absurd h List.not_mem_nil))) s_Model_value h_Model_value
set_option maxRecDepth 100000 in
theorem of_Model_value {Q : Int → AMem → Prop} {x1 x2 : Int} {σ : AMem} (h : ∀ X : Nat → List Int → AMem → Prop, (∀ (x1 x2 : Int) (σ : AMem), B_Model_value_0 X Q x1 x2 σ → X 0 [9790, x1, x2] σ) → X 0 [9790, x1, x2] σ) : T_Model_value [9790, x1, x2] σ Q := fun X hX => h X (fun x1 x2 σ h => hX 0 [9790, x1, x2] σ h)
set_option maxRecDepth 100000 in
theorem iff_Model_value {Q : Int → AMem → Prop} {X : Nat → List Int → AMem → Prop} {x1 x2 : Int} {σ : AMem} : T_Model_value [9790, x1, x2] σ Q ↔ B_Model_value_0 X Q x1 x2 σ := ⟨fun h => h (fun j v σ => B_Model_value X Q j v σ) (fun _ _ _ q => q), fun h _ hX => hX 0 _ _ h⟩
def c_Model_symbolSize : List aE := [(0, 1, .aload_n 0, 1, 0, 0, []), (1, 0, .aload_n 0, 1, 0, 0, []), (2, 0, .iload_n 1, 1, 0, 0, []), (3, 0, .iload_n 2, 1, 0, 0, []), (4, 0, .invokevirtual 326, 3, 199, 8, [8209]), (7, 0, .bipush 16, 2, 0, 0, []), (9, 0, .iadd, 1, 0, 0, []), (10, 0, .bipush 8, 2, 0, 0, []), (12, 0, .invokevirtual 291, 3, 183, 8, [8120]), (15, 0, .lreturn, 1, 0, 0, [])]
def m_Model_symbolSize : List aT := [(0, [(0, 2), (1, 0), (2, 0)], [])]
def B_Model_symbolSize_0 (X : Nat → List Int → AMem → Prop) (Q : Int → AMem → Prop) (x1 x2 : Int) (σ : AMem) : Prop :=
  T_Model_symbol [9790, x1, x2] σ (fun r1 σ2 => am_r32 (r1 + 16) ∧ T_Model_num [9790, (r1 + 16), 8] σ2 (fun r3 σ4 => Q r3 σ4))
def B_Model_symbolSize : (Nat → List Int → AMem → Prop) → (Int → AMem → Prop) → Nat → List Int → AMem → Prop := fun X Q j v σ => am_sel [(am_v3 (fun t x1 x2 σ => if t = 9790 then B_Model_symbolSize_0 X Q x1 x2 σ else False))] j v σ
def T_Model_symbolSize : List Int → AMem → (Int → AMem → Prop) → Prop := am_T B_Model_symbolSize
abbrev y_Model_symbolSize : MethodName := ⟨"LinkHouseModel", "symbolSize", "(II)J"⟩
def a_Model_symbolSize : AC := (204, (y_Model_symbolSize, prog_10_method_23_code, 3, (Option.some Jvm.ClassFile.FieldType.long)), [2, 0, 0], 1, false, { frames := 5, cells := 0, slots := 0, locals := 153 }, T_Model_symbolSize)
set_option maxRecDepth 100000 in
theorem ms_Model_symbolSize : am_MSp a_Model_symbolSize := am_ms_v 8230 9 8229 107003 8 rfl (by decide +kernel)
abbrev k_Model_symbolSize : List AC := [a_Model_symbol, a_Model_num]
set_option maxRecDepth 100000 in
theorem s_Model_symbolSize : (am_chkR { frames := 5, cells := 0, slots := 0, locals := 153 } k_Model_symbolSize && am_chkN c_Model_symbolSize { frames := 5, cells := 0, slots := 0, locals := 153 } && c_Model_symbolSize.all (am_chk "LinkHouseModel" prog_10_method_23_code 3 (Option.some Jvm.ClassFile.FieldType.long) k_Model_symbolSize) && c_Model_symbolSize.all (am_chkL m_Model_symbolSize) && decide (m_Model_symbolSize[0]? = some (0, am_argp 0 [2, 0, 0], [])) && decide (am_argn [2, 0, 0] ≤ 3)) = true := by decide +kernel
set_option maxHeartbeats 150000 in
set_option maxRecDepth 100000 in
theorem h_Model_symbolSize : ∀ X Q j v σ, B_Model_symbolSize X Q j v σ → am_at GR k_Model_symbolSize c_Model_symbolSize m_Model_symbolSize X Q 20 j v σ := fun X Q => am_sel_all (P := fun j v σ => am_at GR k_Model_symbolSize c_Model_symbolSize m_Model_symbolSize X Q 20 j v σ) (⟨(am_v3_of (fun t x1 x2 σ h => am_tk (fun e => by subst e; exact fun h => h) h)), trivial⟩)
set_option maxRecDepth 100000 in
theorem S_Model_symbolSize (l : Launch) (w : AW) : am_S l w GR a_Model_symbolSize := am_sound (rt := 1) (cal := k_Model_symbolSize) 204 y_Model_symbolSize prog_10_method_23_code 3 (Option.some Jvm.ClassFile.FieldType.long) [2, 0, 0] false { frames := 5, cells := 0, slots := 0, locals := 153 } B_Model_symbolSize "LinkHouseModel" c_Model_symbolSize m_Model_symbolSize 20 ms_Model_symbolSize (by decide +kernel) rfl rfl (am_cal (S_Model_symbol l w) (am_cal (S_Model_num l w) (fun _ h => absurd h List.not_mem_nil))) s_Model_symbolSize h_Model_symbolSize
set_option maxRecDepth 100000 in
theorem of_Model_symbolSize {Q : Int → AMem → Prop} {x1 x2 : Int} {σ : AMem} (h : ∀ X : Nat → List Int → AMem → Prop, (∀ (x1 x2 : Int) (σ : AMem), B_Model_symbolSize_0 X Q x1 x2 σ → X 0 [9790, x1, x2] σ) → X 0 [9790, x1, x2] σ) : T_Model_symbolSize [9790, x1, x2] σ Q := fun X hX => h X (fun x1 x2 σ h => hX 0 [9790, x1, x2] σ h)
set_option maxRecDepth 100000 in
theorem iff_Model_symbolSize {Q : Int → AMem → Prop} {X : Nat → List Int → AMem → Prop} {x1 x2 : Int} {σ : AMem} : T_Model_symbolSize [9790, x1, x2] σ Q ↔ B_Model_symbolSize_0 X Q x1 x2 σ := ⟨fun h => h (fun j v σ => B_Model_symbolSize X Q j v σ) (fun _ _ _ q => q), fun h _ hX => hX 0 _ _ h⟩
def c_Model_isSymbol : List aE := [(0, 1, .aload_n 0, 1, 0, 0, []), (1, 0, .iload_n 1, 1, 0, 0, []), (2, 0, .iload_n 2, 1, 0, 0, []), (3, 0, .invokevirtual 372, 3, 200, 8, [8205]), (6, 0, .istore_n 3, 1, 0, 0, []), (7, 0, .aload_n 0, 1, 0, 0, []), (8, 0, .iload_n 1, 1, 0, 0, []), (9, 0, .iload_n 2, 1, 0, 0, []), (10, 0, .invokevirtual 375, 3, 201, 8, [8213]), (13, 0, .istore 4, 2, 0, 0, []), (15, 0, .iload_n 3, 1, 0, 0, []), (16, 0, .ifCond .le 16, 3, 0, 0, []), (19, 0, .iload_n 3, 1, 0, 0, []), (20, 0, .aload_n 0, 1, 0, 0, []), (21, 0, .iload_n 1, 1, 0, 0, []), (22, 0, .invokevirtual 313, 3, 185, 8, [8136]), (25, 0, .if_icmp .ge 7, 3, 0, 0, []), (28, 0, .iconst 1, 1, 0, 0, []), (29, 0, .goto 4, 3, 0, 0, []), (32, 2, .iconst 0, 1, 0, 0, []), (33, 3, .istore 5, 2, 0, 0, []), (35, 0, .iload 4, 2, 0, 0, []), (37, 0, .iconst 2, 1, 0, 0, []), (38, 0, .if_icmp .gt 26, 3, 0, 0, []), (41, 0, .iload_n 3, 1, 0, 0, []), (42, 0, .ifCond .eq 24, 3, 0, 0, []), (45, 0, .iload_n 3, 1, 0, 0, []), (46, 0, .ldc_w 378, 3, 65521, 0, [8217]), (49, 0, .if_icmp .eq 17, 3, 0, 0, []), (52, 0, .iload_n 3, 1, 0, 0, []), (53, 0, .ldc_w 379, 3, 65522, 0, [8218]), (56, 0, .if_icmp .eq 10, 3, 0, 0, []), (59, 0, .iload 5, 2, 0, 0, []), (61, 0, .ifCond .ne 5, 3, 0, 0, []), (64, 0, .iconst 0, 1, 0, 0, []), (65, 0, .ireturn, 1, 1, 0, []), (66, 4, .iload 4, 2, 0, 0, []), (68, 0, .ifCond .ne 16, 3, 0, 0, []), (71, 0, .iload_n 3, 1, 0, 0, []), (72, 0, .ldc_w 379, 3, 65522, 0, [8218]), (75, 0, .if_icmp .eq 7, 3, 0, 0, []), (78, 0, .iconst 1, 1, 0, 0, []), (79, 0, .goto 4, 3, 0, 0, []), (82, 0, .iconst 0, 1, 0, 0, []), (83, 0, .ireturn, 1, 1, 0, []), (84, 0, .iload 5, 2, 0, 0, []), (86, 0, .ifCond .eq 12, 3, 0, 0, []), (89, 0, .aload_n 0, 1, 0, 0, []), (90, 0, .iload_n 1, 1, 0, 0, []), (91, 0, .iload_n 3, 1, 0, 0, []), (92, 0, .invokevirtual 347, 3, 192, 8, [8164]), (95, 0, .ifCond .eq 12, 3, 0, 0, []), (98, 5, .aload_n 0, 1, 0, 0, []), (99, 0, .iload_n 1, 1, 0, 0, []), (100, 0, .iload_n 2, 1, 0, 0, []), (101, 0, .invokevirtual 380, 3, 202, 8, [8219]), (104, 0, .ifCond .ne 5, 3, 0, 0, []), (107, 0, .iconst 0, 1, 0, 0, []), (108, 0, .ireturn, 1, 1, 0, []), (109, 0, .iload_n 3, 1, 0, 0, []), (110, 0, .ldc_w 379, 3, 65522, 0, [8218]), (113, 0, .if_icmp .ne 39, 3, 0, 0, []), (116, 0, .aload_n 0, 1, 0, 0, []), (117, 0, .iload_n 1, 1, 0, 0, []), (118, 0, .iload_n 2, 1, 0, 0, []), (119, 0, .invokevirtual 383, 3, 203, 8, [8223]), (122, 0, .invokestatic 356, 3, 194, 0, [8178]), (125, 0, .ifCond .eq 31, 3, 0, 0, []), (128, 0, .aload_n 0, 1, 0, 0, []), (129, 0, .iload_n 1, 1, 0, 0, []), (130, 0, .iload_n 2, 1, 0, 0, []), (131, 0, .invokevirtual 386, 3, 204, 8, [8227]), (134, 0, .lconst 0, 1, 0, 0, []), (135, 0, .lcmp, 1, 0, 0, []), (136, 0, .ifCond .lt 20, 3, 0, 0, []), (139, 0, .aload_n 0, 1, 0, 0, []), (140, 0, .iload_n 1, 1, 0, 0, []), (141, 0, .iload_n 2, 1, 0, 0, []), (142, 0, .invokevirtual 386, 3, 204, 8, [8227]), (145, 0, .ldc2_w 351, 3, 16384, 0, [8173]), (148, 0, .lcmp, 1, 0, 0, []), (149, 0, .ifCond .gt 7, 3, 0, 0, []), (152, 0, .iconst 1, 1, 0, 0, []), (153, 0, .goto 4, 3, 0, 0, []), (156, 0, .iconst 0, 1, 0, 0, []), (157, 0, .ireturn, 1, 1, 0, [])]
def m_Model_isSymbol : List aT := [(0, [(0, 2), (1, 0), (2, 0)], []), (32, [(0, 2), (1, 0), (2, 0), (3, 0), (4, 0)], []), (33, [(0, 2), (1, 0), (2, 0), (3, 0), (4, 0)], [0]), (66, [(0, 2), (1, 0), (2, 0), (3, 0), (4, 0), (5, 0)], []), (98, [(0, 2), (1, 0), (2, 0), (3, 0)], [])]
def B_Model_isSymbol_0 (X : Nat → List Int → AMem → Prop) (Q : Int → AMem → Prop) (x1 x2 : Int) (σ : AMem) : Prop :=
  T_Model_where [9790, x1, x2] σ (fun r1 σ2 => T_Model_bind [9790, x1, x2] σ2 (fun r3 σ4 => (if 0 < r1 then
  T_Model_sections [9790, x1] σ4 (fun r5 σ6 => (if r1 < r5 then
    X 2 [9790, x1, x2, r1, r3, 1] σ6
    else
    X 1 [9790, x1, x2, r1, r3] σ6))
  else
  X 1 [9790, x1, x2, r1, r3] σ4)))
def B_Model_isSymbol_1 (X : Nat → List Int → AMem → Prop) (Q : Int → AMem → Prop) (x1 x2 x3 x4 : Int) (σ : AMem) : Prop :=
  X 2 [9790, x1, x2, x3, x4, 0] σ
def B_Model_isSymbol_2 (X : Nat → List Int → AMem → Prop) (Q : Int → AMem → Prop) (x1 x2 x3 x4 s0 : Int) (σ : AMem) : Prop :=
  (if 2 < x4 then
  Q 0 σ
  else
  (if x3 = 0 then
    X 3 [9790, x1, x2, x3, x4, s0] σ
    else
    (if x3 = 65521 then
      X 3 [9790, x1, x2, x3, x4, s0] σ
      else
      (if x3 = 65522 then
        X 3 [9790, x1, x2, x3, x4, s0] σ
        else
        (if s0 = 0 then
          Q 0 σ
          else
          X 3 [9790, x1, x2, x3, x4, s0] σ)))))
def B_Model_isSymbol_3 (X : Nat → List Int → AMem → Prop) (Q : Int → AMem → Prop) (x1 x2 x3 x4 x5 : Int) (σ : AMem) : Prop :=
  (if x4 = 0 then
  (if x3 = 65522 then
    Q 0 σ
    else
    Q 1 σ)
  else
  (if x5 = 0 then
    X 4 [9790, x1, x2, x3] σ
    else
    T_Model_isKept [9790, x1, x3] σ (fun r1 σ2 => (if r1 = 0 then
      Q 0 σ2
      else
      X 4 [9790, x1, x2, x3] σ2))))
def B_Model_isSymbol_4 (X : Nat → List Int → AMem → Prop) (Q : Int → AMem → Prop) (x1 x2 x3 : Int) (σ : AMem) : Prop :=
  T_Model_isName [9790, x1, x2] σ (fun r1 σ2 => (if r1 = 0 then
  Q 0 σ2
  else
  (if x3 = 65522 then
    T_Model_value [9790, x1, x2] σ2 (fun r3 σ4 => T_Model_isPower [r3] σ4 (fun r5 σ6 => (if r5 = 0 then
      Q 0 σ6
      else
      T_Model_symbolSize [9790, x1, x2] σ6 (fun r7 σ8 => (if r7 < 0 then
        Q 0 σ8
        else
        T_Model_symbolSize [9790, x1, x2] σ8 (fun r9 σ10 => (if 16384 < r9 then
          Q 0 σ10
          else
          Q 1 σ10)))))))
    else
    Q 1 σ2)))
def B_Model_isSymbol : (Nat → List Int → AMem → Prop) → (Int → AMem → Prop) → Nat → List Int → AMem → Prop := fun X Q j v σ => am_sel [(am_v3 (fun t x1 x2 σ => if t = 9790 then B_Model_isSymbol_0 X Q x1 x2 σ else False)), (am_v5 (fun t x1 x2 x3 x4 σ => if t = 9790 then B_Model_isSymbol_1 X Q x1 x2 x3 x4 σ else False)), (am_v6 (fun t x1 x2 x3 x4 s0 σ => if t = 9790 then B_Model_isSymbol_2 X Q x1 x2 x3 x4 s0 σ else False)), (am_v6 (fun t x1 x2 x3 x4 x5 σ => if t = 9790 then B_Model_isSymbol_3 X Q x1 x2 x3 x4 x5 σ else False)), (am_v4 (fun t x1 x2 x3 σ => if t = 9790 then B_Model_isSymbol_4 X Q x1 x2 x3 σ else False))] j v σ
def T_Model_isSymbol : List Int → AMem → (Int → AMem → Prop) → Prop := am_T B_Model_isSymbol
abbrev y_Model_isSymbol : MethodName := ⟨"LinkHouseModel", "isSymbol", "(II)Z"⟩
def a_Model_isSymbol : AC := (205, (y_Model_isSymbol, prog_10_method_31_code, 6, (Option.some Jvm.ClassFile.FieldType.boolean)), [2, 0, 0], 0, false, { frames := 6, cells := 0, slots := 0, locals := 189 }, T_Model_isSymbol)
set_option maxRecDepth 100000 in
theorem ms_Model_isSymbol : am_MSp a_Model_isSymbol := am_ms_v 8204 9 8203 106013 8 rfl (by decide +kernel)
abbrev k_Model_isSymbol : List AC := [a_Model_where, a_Model_bind, a_Model_sections, a_Model_isKept, a_Model_isName, a_Model_value, a_Model_isPower, a_Model_symbolSize]
set_option maxRecDepth 100000 in
theorem s_Model_isSymbol : (am_chkR { frames := 6, cells := 0, slots := 0, locals := 189 } k_Model_isSymbol && am_chkN c_Model_isSymbol { frames := 6, cells := 0, slots := 0, locals := 189 } && c_Model_isSymbol.all (am_chk "LinkHouseModel" prog_10_method_31_code 6 (Option.some Jvm.ClassFile.FieldType.boolean) k_Model_isSymbol) && c_Model_isSymbol.all (am_chkL m_Model_isSymbol) && decide (m_Model_isSymbol[0]? = some (0, am_argp 0 [2, 0, 0], [])) && decide (am_argn [2, 0, 0] ≤ 6)) = true := by decide +kernel
set_option maxHeartbeats 150000 in
set_option maxRecDepth 100000 in
theorem h_Model_isSymbol : ∀ X Q j v σ, B_Model_isSymbol X Q j v σ → am_at GR k_Model_isSymbol c_Model_isSymbol m_Model_isSymbol X Q 91 j v σ := fun X Q => am_sel_all (P := fun j v σ => am_at GR k_Model_isSymbol c_Model_isSymbol m_Model_isSymbol X Q 91 j v σ) (⟨(am_v3_of (fun t x1 x2 σ h => am_tk (fun e => by subst e; exact fun h => h) h)), ⟨(am_v5_of (fun t x1 x2 x3 x4 σ h => am_tk (fun e => by subst e; exact fun h => h) h)), ⟨(am_v6_of (fun t x1 x2 x3 x4 s0 σ h => am_tk (fun e => by subst e; exact fun h => h) h)), ⟨(am_v6_of (fun t x1 x2 x3 x4 x5 σ h => am_tk (fun e => by subst e; exact fun h => h) h)), ⟨(am_v4_of (fun t x1 x2 x3 σ h => am_tk (fun e => by subst e; exact fun h => h) h)), trivial⟩⟩⟩⟩⟩)
set_option maxRecDepth 100000 in
theorem S_Model_isSymbol (l : Launch) (w : AW) : am_S l w GR a_Model_isSymbol := am_sound (rt := 0) (cal := k_Model_isSymbol) 205 y_Model_isSymbol prog_10_method_31_code 6 (Option.some Jvm.ClassFile.FieldType.boolean) [2, 0, 0] false { frames := 6, cells := 0, slots := 0, locals := 189 } B_Model_isSymbol "LinkHouseModel" c_Model_isSymbol m_Model_isSymbol 91 ms_Model_isSymbol (by decide +kernel) rfl rfl (am_cal (S_Model_where l w) (am_cal (S_Model_bind l w) (am_cal (S_Model_sections l w) (am_cal (S_Model_isKept l w) (am_cal (S_Model_isName l w) (am_cal (S_Model_value l w) (am_cal (S_Model_isPower l w) (am_cal (S_Model_symbolSize l w) (fun _ h => absurd h List.not_mem_nil))))))))) s_Model_isSymbol h_Model_isSymbol
set_option maxRecDepth 100000 in
theorem of_Model_isSymbol {Q : Int → AMem → Prop} {x1 x2 : Int} {σ : AMem} (h : ∀ X : Nat → List Int → AMem → Prop, (∀ (x1 x2 : Int) (σ : AMem), B_Model_isSymbol_0 X Q x1 x2 σ → X 0 [9790, x1, x2] σ) → (∀ (x1 x2 x3 x4 : Int) (σ : AMem), B_Model_isSymbol_1 X Q x1 x2 x3 x4 σ → X 1 [9790, x1, x2, x3, x4] σ) → (∀ (x1 x2 x3 x4 s0 : Int) (σ : AMem), B_Model_isSymbol_2 X Q x1 x2 x3 x4 s0 σ → X 2 [9790, x1, x2, x3, x4, s0] σ) → (∀ (x1 x2 x3 x4 x5 : Int) (σ : AMem), B_Model_isSymbol_3 X Q x1 x2 x3 x4 x5 σ → X 3 [9790, x1, x2, x3, x4, x5] σ) → (∀ (x1 x2 x3 : Int) (σ : AMem), B_Model_isSymbol_4 X Q x1 x2 x3 σ → X 4 [9790, x1, x2, x3] σ) → X 0 [9790, x1, x2] σ) : T_Model_isSymbol [9790, x1, x2] σ Q := fun X hX => h X (fun x1 x2 σ h => hX 0 [9790, x1, x2] σ h) (fun x1 x2 x3 x4 σ h => hX 1 [9790, x1, x2, x3, x4] σ h) (fun x1 x2 x3 x4 s0 σ h => hX 2 [9790, x1, x2, x3, x4, s0] σ h) (fun x1 x2 x3 x4 x5 σ h => hX 3 [9790, x1, x2, x3, x4, x5] σ h) (fun x1 x2 x3 σ h => hX 4 [9790, x1, x2, x3] σ h)
