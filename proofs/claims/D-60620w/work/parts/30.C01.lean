/-! methods: printed by gen/all.py -/
def c_Part_live : List aE := [(0, 1, .iconst 0, 1, 0, 0, []), (1, 0, .istore_n 2, 1, 0, 0, []), (2, 2, .iload_n 2, 1, 0, 0, []), (3, 0, .aload_n 0, 1, 0, 0, []), (4, 0, .getfield 142, 3, 7, 3, [0, 0, 1072]), (7, 0, .if_icmp .ge 41, 3, 0, 0, []), (10, 0, .aload_n 0, 1, 0, 0, []), (11, 0, .getfield 68, 3, 7, 26, [2, 0, 1119]), (14, 0, .iload_n 2, 1, 0, 0, []), (15, 0, .iload_n 1, 1, 0, 0, []), (16, 0, .ifCond .eq 24, 3, 0, 0, []), (19, 0, .aload_n 0, 1, 0, 0, []), (20, 0, .iload_n 2, 1, 0, 0, []), (21, 0, .invokevirtual 155, 3, 23, 7, [3058]), (24, 0, .ifCond .eq 16, 3, 0, 0, []), (27, 0, .aload_n 0, 1, 0, 0, []), (28, 0, .getfield 71, 3, 7, 27, [2, 0, 1121]), (31, 0, .iload_n 2, 1, 0, 0, []), (32, 0, .baload, 1, 3, 0, []), (33, 0, .ifCond .ne 7, 3, 0, 0, []), (36, 0, .iconst 1, 1, 0, 0, []), (37, 0, .goto 4, 3, 0, 0, []), (40, 3, .iconst 0, 1, 0, 0, []), (41, 4, .bastore, 1, 3, 0, []), (42, 0, .iinc 2 1, 3, 0, 0, []), (45, 0, .goto (-43), 3, 0, 0, []), (48, 0, .return_, 1, 0, 0, [])]
def m_Part_live : List aT := [(0, [(0, 2), (1, 0)], []), (2, [(0, 2), (1, 0), (2, 0)], []), (40, [(0, 2), (1, 0), (2, 0)], [0, 2]), (41, [(0, 2), (1, 0), (2, 0)], [0, 0, 2])]
def B_Part_live_0 (X : Nat → List Int → AMem → Prop) (Q : Int → AMem → Prop) (x0 x1 : Int) (σ : AMem) : Prop :=
  X 1 [x0, x1, 0] σ
def B_Part_live_1 (X : Nat → List Int → AMem → Prop) (Q : Int → AMem → Prop) (x0 x1 x2 : Int) (σ : AMem) : Prop :=
  (if ly_k x0 = 27 then (if x2 < (am_rd GR σ x0 3) then
  (if ly_k x0 = 27 then (if x1 = 0 then
    X 2 [x0, x1, x2, x2, (am_rd GR σ x0 26)] σ
    else
    (if ly_k x0 = 27 then T_Part_isLoaded [x0, x2] σ (fun r1 σ2 => (if r1 = 0 then
      X 2 [x0, x1, x2, x2, (am_rd GR σ x0 26)] σ2
      else
      (if ly_k x0 = 27 then (if ly_k (am_rd GR σ2 x0 27) = 3 then 0 ≤ x2 ∧ x2 < ly_l (am_rd GR σ2 x0 27) ∧ (if (σ2 (am_rd GR σ2 x0 27) x2) = 0 then
        X 3 [x0, x1, x2, 1, x2, (am_rd GR σ x0 26)] σ2
        else
        X 2 [x0, x1, x2, x2, (am_rd GR σ x0 26)] σ2) else False) else False))) else False)) else False)
  else
  Q 0 σ) else False)
def B_Part_live_2 (X : Nat → List Int → AMem → Prop) (Q : Int → AMem → Prop) (x0 x1 x2 s0 s1 : Int) (σ : AMem) : Prop :=
  X 3 [x0, x1, x2, 0, s0, s1] σ
def B_Part_live_3 (X : Nat → List Int → AMem → Prop) (Q : Int → AMem → Prop) (x0 x1 x2 s0 s1 s2 : Int) (σ : AMem) : Prop :=
  (if ly_k s2 = 3 then (if s0 = 0 ∨ s0 = 1 then 0 ≤ s1 ∧ s1 < ly_l s2 ∧ am_let (am_upd σ s2 s1 s0) (fun σ1 => am_r32 (x2 + 1) ∧ X 1 [x0, x1, (x2 + 1)] σ1) else False) else False)
def B_Part_live : (Nat → List Int → AMem → Prop) → (Int → AMem → Prop) → Nat → List Int → AMem → Prop := fun X Q j v σ => am_sel [(am_v2 (fun x0 x1 σ => B_Part_live_0 X Q x0 x1 σ)), (am_v3 (fun x0 x1 x2 σ => B_Part_live_1 X Q x0 x1 x2 σ)), (am_v5 (fun x0 x1 x2 s0 s1 σ => B_Part_live_2 X Q x0 x1 x2 s0 s1 σ)), (am_v6 (fun x0 x1 x2 s0 s1 s2 σ => B_Part_live_3 X Q x0 x1 x2 s0 s1 s2 σ))] j v σ
def T_Part_live : List Int → AMem → (Int → AMem → Prop) → Prop := am_T B_Part_live
abbrev y_Part_live : MethodName := ⟨"LinkHouse$Part", "live", "(Z)V"⟩
def a_Part_live : AC := (24, (y_Part_live, prog_6_method_24_code, 3, (Option.none : Option Jvm.ClassFile.FieldType)), [2, 0], 3, false, { frames := 1, cells := 0, slots := 0, locals := 29 }, T_Part_live)
set_option maxRecDepth 100000 in
theorem ms_Part_live : am_MSp a_Part_live := am_ms_v 3057 8 3055 3056 7 rfl (by decide +kernel)
abbrev k_Part_live : List AC := [a_Part_isLoaded]
set_option maxRecDepth 100000 in
theorem s_Part_live : (am_chkR { frames := 1, cells := 0, slots := 0, locals := 29 } k_Part_live && am_chkN c_Part_live { frames := 1, cells := 0, slots := 0, locals := 29 } && c_Part_live.all (am_chk "LinkHouse$Part" prog_6_method_24_code 3 (Option.none : Option Jvm.ClassFile.FieldType) k_Part_live) && c_Part_live.all (am_chkL m_Part_live) && decide (m_Part_live[0]? = some (0, am_argp 0 [2, 0], [])) && decide (am_argn [2, 0] ≤ 3)) = true := by decide +kernel
set_option maxHeartbeats 150000 in
set_option maxRecDepth 100000 in
theorem h_Part_live : ∀ X Q j v σ, B_Part_live X Q j v σ → am_at GR k_Part_live c_Part_live m_Part_live X Q 32 j v σ := fun X Q => am_sel_all (P := fun j v σ => am_at GR k_Part_live c_Part_live m_Part_live X Q 32 j v σ) (⟨(am_v2_of (fun x0 x1 σ h => h)), ⟨(am_v3_of (fun x0 x1 x2 σ h => h)), ⟨(am_v5_of (fun x0 x1 x2 s0 s1 σ h => h)), ⟨(am_v6_of (fun x0 x1 x2 s0 s1 s2 σ h => h)), trivial⟩⟩⟩⟩)
set_option maxRecDepth 100000 in
theorem S_Part_live (l : Launch) (w : AW) : am_S l w GR a_Part_live := am_sound (rt := 3) (cal := k_Part_live) 24 y_Part_live prog_6_method_24_code 3 (Option.none : Option Jvm.ClassFile.FieldType) [2, 0] false { frames := 1, cells := 0, slots := 0, locals := 29 } B_Part_live "LinkHouse$Part" c_Part_live m_Part_live 32 ms_Part_live (by decide +kernel) rfl rfl (am_cal (S_Part_isLoaded l w) (fun _ h => absurd h List.not_mem_nil)) s_Part_live h_Part_live
set_option maxRecDepth 100000 in
theorem of_Part_live {Q : Int → AMem → Prop} {x0 x1 : Int} {σ : AMem} (h : ∀ X : Nat → List Int → AMem → Prop, (∀ (x0 x1 : Int) (σ : AMem), B_Part_live_0 X Q x0 x1 σ → X 0 [x0, x1] σ) → (∀ (x0 x1 x2 : Int) (σ : AMem), B_Part_live_1 X Q x0 x1 x2 σ → X 1 [x0, x1, x2] σ) → (∀ (x0 x1 x2 s0 s1 : Int) (σ : AMem), B_Part_live_2 X Q x0 x1 x2 s0 s1 σ → X 2 [x0, x1, x2, s0, s1] σ) → (∀ (x0 x1 x2 s0 s1 s2 : Int) (σ : AMem), B_Part_live_3 X Q x0 x1 x2 s0 s1 s2 σ → X 3 [x0, x1, x2, s0, s1, s2] σ) → X 0 [x0, x1] σ) : T_Part_live [x0, x1] σ Q := fun X hX => h X (fun x0 x1 σ h => hX 0 [x0, x1] σ h) (fun x0 x1 x2 σ h => hX 1 [x0, x1, x2] σ h) (fun x0 x1 x2 s0 s1 σ h => hX 2 [x0, x1, x2, s0, s1] σ h) (fun x0 x1 x2 s0 s1 s2 σ h => hX 3 [x0, x1, x2, s0, s1, s2] σ h)
def c_LinkHouse_groups : List aE := [(0, 1, .aload_n 1, 1, 0, 0, []), (1, 0, .invokevirtual 216, 3, 19, 7, [3036]), (4, 0, .iconst 0, 1, 0, 0, []), (5, 0, .istore_n 2, 1, 0, 0, []), (6, 2, .iload_n 2, 1, 0, 0, []), (7, 0, .aload_n 1, 1, 0, 0, []), (8, 0, .getfield 219, 3, 7, 3, [0, 0, 1073]), (11, 0, .if_icmp .ge 62, 3, 0, 0, []), (14, 0, .aload_n 1, 1, 0, 0, []), (15, 0, .iload_n 2, 1, 0, 0, []), (16, 0, .invokevirtual 222, 3, 20, 7, [3040]), (19, 0, .ifCond .ne 6, 3, 0, 0, []), (22, 0, .goto 45, 3, 0, 0, []), (25, 0, .aload_n 0, 1, 0, 0, []), (26, 0, .getfield 25, 3, 0, 3, [2, 0, 1216]), (29, 0, .aload_n 1, 1, 0, 0, []), (30, 0, .aload_n 1, 1, 0, 0, []), (31, 0, .getfield 226, 3, 7, 10, [2, 0, 1086]), (34, 0, .iload_n 2, 1, 0, 0, []), (35, 0, .iaload, 1, 0, 0, []), (36, 0, .invokevirtual 229, 3, 21, 2, [3044]), (39, 0, .astore_n 3, 1, 0, 0, []), (40, 0, .aload_n 3, 1, 0, 0, []), (41, 0, .getfield 233, 3, 3, 9, [0, 1, 135]), (44, 0, .ifCond .eq 18, 3, 0, 0, []), (47, 0, .aload_n 1, 1, 0, 0, []), (48, 0, .iload_n 2, 1, 0, 0, []), (49, 0, .invokevirtual 237, 3, 22, 7, [3049]), (52, 0, .aload_n 0, 1, 0, 0, []), (53, 0, .dup, 1, 0, 0, []), (54, 0, .getfield 241, 3, 0, 40, [0, 0, 2013]), (57, 0, .iconst 1, 1, 0, 0, []), (58, 0, .iadd, 1, 0, 0, []), (59, 0, .putfield 241, 3, 0, 40, [0, 0, 2013]), (62, 3, .aload_n 3, 1, 0, 0, []), (63, 0, .iconst 1, 1, 0, 0, []), (64, 0, .putfield 233, 3, 3, 9, [0, 1, 135]), (67, 4, .iinc 2 1, 3, 0, 0, []), (70, 0, .goto (-64), 3, 0, 0, []), (73, 0, .aload_n 1, 1, 0, 0, []), (74, 0, .iconst 1, 1, 0, 0, []), (75, 0, .invokevirtual 244, 3, 24, 7, [3054]), (78, 0, .iconst 0, 1, 0, 0, []), (79, 0, .istore_n 2, 1, 0, 0, []), (80, 5, .iload_n 2, 1, 0, 0, []), (81, 0, .aload_n 1, 1, 0, 0, []), (82, 0, .getfield 247, 3, 7, 4, [0, 0, 1075]), (85, 0, .if_icmp .ge 23, 3, 0, 0, []), (88, 0, .aload_n 1, 1, 0, 0, []), (89, 0, .getfield 250, 3, 7, 21, [2, 0, 1111]), (92, 0, .iload_n 2, 1, 0, 0, []), (93, 0, .iconst (-1), 1, 0, 0, []), (94, 0, .iastore, 1, 0, 0, []), (95, 0, .aload_n 1, 1, 0, 0, []), (96, 0, .getfield 253, 3, 7, 22, [2, 0, 1113]), (99, 0, .iload_n 2, 1, 0, 0, []), (100, 0, .iconst (-1), 1, 0, 0, []), (101, 0, .iastore, 1, 0, 0, []), (102, 0, .iinc 2 1, 3, 0, 0, []), (105, 0, .goto (-25), 3, 0, 0, []), (108, 0, .return_, 1, 0, 0, [])]
def m_LinkHouse_groups : List aT := [(0, [(0, 2), (1, 2)], []), (6, [(0, 2), (1, 2), (2, 0)], []), (62, [(0, 2), (1, 2), (2, 0), (3, 2)], []), (67, [(0, 2), (1, 2), (2, 0)], []), (80, [(1, 2), (2, 0)], [])]
def B_LinkHouse_groups_0 (X : Nat → List Int → AMem → Prop) (Q : Int → AMem → Prop) (x1 : Int) (σ : AMem) : Prop :=
  (if ly_k x1 = 27 then T_Part_begin [x1] σ (fun r1 σ2 => X 1 [1, x1, 0] σ2) else False)
def B_LinkHouse_groups_1 (X : Nat → List Int → AMem → Prop) (Q : Int → AMem → Prop) (x1 x2 : Int) (σ : AMem) : Prop :=
  (if ly_k x1 = 27 then (if x2 < (am_rd GR σ x1 3) then
  (if ly_k x1 = 27 then T_Part_isOnce [x1, x2] σ (fun r3 σ4 => (if r3 = 0 then
    X 3 [1, x1, x2] σ4
    else
    (if ly_k x1 = 27 then (if ly_k (am_rd GR σ4 x1 10) = 1 then 0 ≤ x2 ∧ x2 < ly_l (am_rd GR σ4 x1 10) ∧ T_Names_take [16, x1, (σ4 (am_rd GR σ4 x1 10) x2)] σ4 (fun r5 σ6 => (if ly_k r5 = 23 then (if (am_rd GR σ6 r5 9) = 0 then
      X 2 [1, x1, x2, r5] σ6
      else
      (if ly_k x1 = 27 then T_Part_drop [x1, x2] σ6 (fun r7 σ8 => am_r32 ((σ8 1 40) + 1) ∧ am_let (am_upd σ8 1 40 ((σ8 1 40) + 1)) (fun σ9 => X 2 [1, x1, x2, r5] σ9)) else False)) else False)) else False) else False))) else False)
  else
  (if ly_k x1 = 27 then T_Part_live [x1, 1] σ (fun r1 σ2 => X 4 [x1, 0] σ2) else False)) else False)
def B_LinkHouse_groups_2 (X : Nat → List Int → AMem → Prop) (Q : Int → AMem → Prop) (x1 x2 x3 : Int) (σ : AMem) : Prop :=
  (if ly_k x3 = 23 then (if ly_fin x3 9 = 0 then am_let (am_upd σ x3 9 1) (fun σ1 => X 3 [1, x1, x2] σ1) else False) else False)
def B_LinkHouse_groups_3 (X : Nat → List Int → AMem → Prop) (Q : Int → AMem → Prop) (x1 x2 : Int) (σ : AMem) : Prop :=
  am_r32 (x2 + 1) ∧ X 1 [1, x1, (x2 + 1)] σ
def B_LinkHouse_groups_4 (X : Nat → List Int → AMem → Prop) (Q : Int → AMem → Prop) (x1 x2 : Int) (σ : AMem) : Prop :=
  (if ly_k x1 = 27 then (if x2 < (am_rd GR σ x1 4) then
  (if ly_k x1 = 27 then (if ly_k (am_rd GR σ x1 21) = 1 then 0 ≤ x2 ∧ x2 < ly_l (am_rd GR σ x1 21) ∧ am_let (am_upd σ (am_rd GR σ x1 21) x2 (-1)) (fun σ1 => (if ly_k x1 = 27 then (if ly_k (am_rd GR σ1 x1 22) = 1 then 0 ≤ x2 ∧ x2 < ly_l (am_rd GR σ1 x1 22) ∧ am_let (am_upd σ1 (am_rd GR σ1 x1 22) x2 (-1)) (fun σ2 => am_r32 (x2 + 1) ∧ X 4 [x1, (x2 + 1)] σ2) else False) else False)) else False) else False)
  else
  Q 0 σ) else False)
def B_LinkHouse_groups : (Nat → List Int → AMem → Prop) → (Int → AMem → Prop) → Nat → List Int → AMem → Prop := fun X Q j v σ => am_sel [(am_v2 (fun t x1 σ => if t = 1 then B_LinkHouse_groups_0 X Q x1 σ else False)), (am_v3 (fun t x1 x2 σ => if t = 1 then B_LinkHouse_groups_1 X Q x1 x2 σ else False)), (am_v4 (fun t x1 x2 x3 σ => if t = 1 then B_LinkHouse_groups_2 X Q x1 x2 x3 σ else False)), (am_v3 (fun t x1 x2 σ => if t = 1 then B_LinkHouse_groups_3 X Q x1 x2 σ else False)), (am_v2 (fun x1 x2 σ => B_LinkHouse_groups_4 X Q x1 x2 σ))] j v σ
def T_LinkHouse_groups : List Int → AMem → (Int → AMem → Prop) → Prop := am_T B_LinkHouse_groups
abbrev y_LinkHouse_groups : MethodName := ⟨"LinkHouse", "groups", "(LLinkHouse$Part;)V"⟩
def a_LinkHouse_groups : AC := (25, (y_LinkHouse_groups, prog_1_method_10_code, 4, (Option.none : Option Jvm.ClassFile.FieldType)), [2, 2], 3, false, { frames := 5, cells := 0, slots := 0, locals := 162 }, T_LinkHouse_groups)
set_option maxRecDepth 100000 in
theorem ms_LinkHouse_groups : am_MSp a_LinkHouse_groups := am_ms_v 3035 1 3034 100008 0 rfl (by decide +kernel)
abbrev k_LinkHouse_groups : List AC := [a_Part_begin, a_Part_isOnce, a_Names_take, a_Part_drop, a_Part_live]
set_option maxRecDepth 100000 in
theorem s_LinkHouse_groups : (am_chkR { frames := 5, cells := 0, slots := 0, locals := 162 } k_LinkHouse_groups && am_chkN c_LinkHouse_groups { frames := 5, cells := 0, slots := 0, locals := 162 } && c_LinkHouse_groups.all (am_chk "LinkHouse" prog_1_method_10_code 4 (Option.none : Option Jvm.ClassFile.FieldType) k_LinkHouse_groups) && c_LinkHouse_groups.all (am_chkL m_LinkHouse_groups) && decide (m_LinkHouse_groups[0]? = some (0, am_argp 0 [2, 2], [])) && decide (am_argn [2, 2] ≤ 4)) = true := by decide +kernel
set_option maxHeartbeats 150000 in
set_option maxRecDepth 100000 in
theorem h_LinkHouse_groups : ∀ X Q j v σ, B_LinkHouse_groups X Q j v σ → am_at GR k_LinkHouse_groups c_LinkHouse_groups m_LinkHouse_groups X Q 66 j v σ := fun X Q => am_sel_all (P := fun j v σ => am_at GR k_LinkHouse_groups c_LinkHouse_groups m_LinkHouse_groups X Q 66 j v σ) (⟨(am_v2_of (fun t x1 σ h => am_tk (fun e => by subst e; exact fun h => h) h)), ⟨(am_v3_of (fun t x1 x2 σ h => am_tk (fun e => by subst e; exact fun h => h) h)), ⟨(am_v4_of (fun t x1 x2 x3 σ h => am_tk (fun e => by subst e; exact fun h => h) h)), ⟨(am_v3_of (fun t x1 x2 σ h => am_tk (fun e => by subst e; exact fun h => h) h)), ⟨(am_v2_of (fun x1 x2 σ h => h)), trivial⟩⟩⟩⟩⟩)
set_option maxRecDepth 100000 in
theorem S_LinkHouse_groups (l : Launch) (w : AW) : am_S l w GR a_LinkHouse_groups := am_sound (rt := 3) (cal := k_LinkHouse_groups) 25 y_LinkHouse_groups prog_1_method_10_code 4 (Option.none : Option Jvm.ClassFile.FieldType) [2, 2] false { frames := 5, cells := 0, slots := 0, locals := 162 } B_LinkHouse_groups "LinkHouse" c_LinkHouse_groups m_LinkHouse_groups 66 ms_LinkHouse_groups (by decide +kernel) rfl rfl (am_cal (S_Part_begin l w) (am_cal (S_Part_isOnce l w) (am_cal (S_Names_take l w) (am_cal (S_Part_drop l w) (am_cal (S_Part_live l w) (fun _ h => absurd h List.not_mem_nil)))))) s_LinkHouse_groups h_LinkHouse_groups
set_option maxRecDepth 100000 in
theorem of_LinkHouse_groups {Q : Int → AMem → Prop} {x1 : Int} {σ : AMem} (h : ∀ X : Nat → List Int → AMem → Prop, (∀ (x1 : Int) (σ : AMem), B_LinkHouse_groups_0 X Q x1 σ → X 0 [1, x1] σ) → (∀ (x1 x2 : Int) (σ : AMem), B_LinkHouse_groups_1 X Q x1 x2 σ → X 1 [1, x1, x2] σ) → (∀ (x1 x2 x3 : Int) (σ : AMem), B_LinkHouse_groups_2 X Q x1 x2 x3 σ → X 2 [1, x1, x2, x3] σ) → (∀ (x1 x2 : Int) (σ : AMem), B_LinkHouse_groups_3 X Q x1 x2 σ → X 3 [1, x1, x2] σ) → (∀ (x1 x2 : Int) (σ : AMem), B_LinkHouse_groups_4 X Q x1 x2 σ → X 4 [x1, x2] σ) → X 0 [1, x1] σ) : T_LinkHouse_groups [1, x1] σ Q := fun X hX => h X (fun x1 σ h => hX 0 [1, x1] σ h) (fun x1 x2 σ h => hX 1 [1, x1, x2] σ h) (fun x1 x2 x3 σ h => hX 2 [1, x1, x2, x3] σ h) (fun x1 x2 σ h => hX 3 [1, x1, x2] σ h) (fun x1 x2 σ h => hX 4 [x1, x2] σ h)
def c_Part_isIn : List aE := [(0, 1, .aload_n 0, 1, 0, 0, []), (1, 0, .getfield 40, 3, 7, 17, [2, 0, 1101]), (4, 0, .iload_n 1, 1, 0, 0, []), (5, 0, .iaload, 1, 0, 0, []), (6, 0, .ifCond .eq 29, 3, 0, 0, []), (9, 0, .aload_n 0, 1, 0, 0, []), (10, 0, .getfield 40, 3, 7, 17, [2, 0, 1101]), (13, 0, .iload_n 1, 1, 0, 0, []), (14, 0, .iaload, 1, 0, 0, []), (15, 0, .ldc 189, 2, 65521, 0, [3072]), (17, 0, .if_icmp .eq 18, 3, 0, 0, []), (20, 0, .aload_n 0, 1, 0, 0, []), (21, 0, .getfield 40, 3, 7, 17, [2, 0, 1101]), (24, 0, .iload_n 1, 1, 0, 0, []), (25, 0, .iaload, 1, 0, 0, []), (26, 0, .ldc 190, 2, 65522, 0, [3073]), (28, 0, .if_icmp .eq 7, 3, 0, 0, []), (31, 0, .iconst 1, 1, 0, 0, []), (32, 0, .goto 4, 3, 0, 0, []), (35, 0, .iconst 0, 1, 0, 0, []), (36, 0, .ireturn, 1, 1, 0, [])]
def m_Part_isIn : List aT := [(0, [(0, 2), (1, 0)], [])]
def B_Part_isIn_0 (X : Nat → List Int → AMem → Prop) (Q : Int → AMem → Prop) (x0 x1 : Int) (σ : AMem) : Prop :=
  (if ly_k x0 = 27 then (if ly_k (am_rd GR σ x0 17) = 1 then 0 ≤ x1 ∧ x1 < ly_l (am_rd GR σ x0 17) ∧ (if (σ (am_rd GR σ x0 17) x1) = 0 then
  Q 0 σ
  else
  (if ly_k x0 = 27 then (if ly_k (am_rd GR σ x0 17) = 1 then 0 ≤ x1 ∧ x1 < ly_l (am_rd GR σ x0 17) ∧ (if (σ (am_rd GR σ x0 17) x1) = 65521 then
    Q 0 σ
    else
    (if ly_k x0 = 27 then (if ly_k (am_rd GR σ x0 17) = 1 then 0 ≤ x1 ∧ x1 < ly_l (am_rd GR σ x0 17) ∧ (if (σ (am_rd GR σ x0 17) x1) = 65522 then
      Q 0 σ
      else
      Q 1 σ) else False) else False)) else False) else False)) else False) else False)
def B_Part_isIn : (Nat → List Int → AMem → Prop) → (Int → AMem → Prop) → Nat → List Int → AMem → Prop := fun X Q j v σ => am_sel [(am_v2 (fun x0 x1 σ => B_Part_isIn_0 X Q x0 x1 σ))] j v σ
def T_Part_isIn : List Int → AMem → (Int → AMem → Prop) → Prop := am_T B_Part_isIn
abbrev y_Part_isIn : MethodName := ⟨"LinkHouse$Part", "isIn", "(I)Z"⟩
def a_Part_isIn : AC := (26, (y_Part_isIn, prog_6_method_27_code, 2, (Option.some Jvm.ClassFile.FieldType.boolean)), [2, 0], 0, false, { frames := 0, cells := 0, slots := 0, locals := 0 }, T_Part_isIn)
set_option maxRecDepth 100000 in
theorem ms_Part_isIn : am_MSp a_Part_isIn := am_ms_v 3071 8 3069 3070 7 rfl (by decide +kernel)
abbrev k_Part_isIn : List AC := []
set_option maxRecDepth 100000 in
theorem s_Part_isIn : (am_chkR { frames := 0, cells := 0, slots := 0, locals := 0 } k_Part_isIn && am_chkN c_Part_isIn { frames := 0, cells := 0, slots := 0, locals := 0 } && c_Part_isIn.all (am_chk "LinkHouse$Part" prog_6_method_27_code 2 (Option.some Jvm.ClassFile.FieldType.boolean) k_Part_isIn) && c_Part_isIn.all (am_chkL m_Part_isIn) && decide (m_Part_isIn[0]? = some (0, am_argp 0 [2, 0], [])) && decide (am_argn [2, 0] ≤ 2)) = true := by decide +kernel
set_option maxHeartbeats 150000 in
set_option maxRecDepth 100000 in
theorem h_Part_isIn : ∀ X Q j v σ, B_Part_isIn X Q j v σ → am_at GR k_Part_isIn c_Part_isIn m_Part_isIn X Q 26 j v σ := fun X Q => am_sel_all (P := fun j v σ => am_at GR k_Part_isIn c_Part_isIn m_Part_isIn X Q 26 j v σ) (⟨(am_v2_of (fun x0 x1 σ h => h)), trivial⟩)
set_option maxRecDepth 100000 in
theorem S_Part_isIn (l : Launch) (w : AW) : am_S l w GR a_Part_isIn := am_sound (rt := 0) (cal := k_Part_isIn) 26 y_Part_isIn prog_6_method_27_code 2 (Option.some Jvm.ClassFile.FieldType.boolean) [2, 0] false { frames := 0, cells := 0, slots := 0, locals := 0 } B_Part_isIn "LinkHouse$Part" c_Part_isIn m_Part_isIn 26 ms_Part_isIn (by decide +kernel) rfl rfl (fun _ h => absurd h List.not_mem_nil) s_Part_isIn h_Part_isIn
set_option maxRecDepth 100000 in
theorem of_Part_isIn {Q : Int → AMem → Prop} {x0 x1 : Int} {σ : AMem} (h : ∀ X : Nat → List Int → AMem → Prop, (∀ (x0 x1 : Int) (σ : AMem), B_Part_isIn_0 X Q x0 x1 σ → X 0 [x0, x1] σ) → X 0 [x0, x1] σ) : T_Part_isIn [x0, x1] σ Q := fun X hX => h X (fun x0 x1 σ h => hX 0 [x0, x1] σ h)
set_option maxRecDepth 100000 in
theorem iff_Part_isIn {Q : Int → AMem → Prop} {X : Nat → List Int → AMem → Prop} {x0 x1 : Int} {σ : AMem} : T_Part_isIn [x0, x1] σ Q ↔ B_Part_isIn_0 X Q x0 x1 σ := ⟨fun h => h (fun j v σ => B_Part_isIn X Q j v σ) (fun _ _ _ q => q), fun h _ hX => hX 0 _ _ h⟩
def c_Part_isDefinition : List aE := [(0, 1, .aload_n 0, 1, 0, 0, []), (1, 0, .iload_n 1, 1, 0, 0, []), (2, 0, .invokevirtual 227, 3, 10, 7, [3067]), (5, 0, .ifCond .eq 29, 3, 0, 0, []), (8, 0, .aload_n 0, 1, 0, 0, []), (9, 0, .iload_n 1, 1, 0, 0, []), (10, 0, .invokevirtual 230, 3, 26, 7, [3068]), (13, 0, .ifCond .eq 17, 3, 0, 0, []), (16, 0, .aload_n 0, 1, 0, 0, []), (17, 0, .getfield 71, 3, 7, 27, [2, 0, 1121]), (20, 0, .aload_n 0, 1, 0, 0, []), (21, 0, .getfield 40, 3, 7, 17, [2, 0, 1101]), (24, 0, .iload_n 1, 1, 0, 0, []), (25, 0, .iaload, 1, 0, 0, []), (26, 0, .baload, 1, 3, 0, []), (27, 0, .ifCond .ne 7, 3, 0, 0, []), (30, 0, .iconst 1, 1, 0, 0, []), (31, 0, .goto 4, 3, 0, 0, []), (34, 0, .iconst 0, 1, 0, 0, []), (35, 0, .ireturn, 1, 1, 0, [])]
def m_Part_isDefinition : List aT := [(0, [(0, 2), (1, 0)], [])]
def B_Part_isDefinition_0 (X : Nat → List Int → AMem → Prop) (Q : Int → AMem → Prop) (x0 x1 : Int) (σ : AMem) : Prop :=
  (if ly_k x0 = 27 then T_Part_defines [x0, x1] σ (fun r1 σ2 => (if r1 = 0 then
  Q 0 σ2
  else
  (if ly_k x0 = 27 then T_Part_isIn [x0, x1] σ2 (fun r3 σ4 => (if r3 = 0 then
    Q 1 σ4
    else
    (if ly_k x0 = 27 then (if ly_k x0 = 27 then (if ly_k (am_rd GR σ4 x0 17) = 1 then 0 ≤ x1 ∧ x1 < ly_l (am_rd GR σ4 x0 17) ∧ (if ly_k (am_rd GR σ4 x0 27) = 3 then 0 ≤ (σ4 (am_rd GR σ4 x0 17) x1) ∧ (σ4 (am_rd GR σ4 x0 17) x1) < ly_l (am_rd GR σ4 x0 27) ∧ (if (σ4 (am_rd GR σ4 x0 27) (σ4 (am_rd GR σ4 x0 17) x1)) = 0 then
      Q 1 σ4
      else
      Q 0 σ4) else False) else False) else False) else False))) else False))) else False)
def B_Part_isDefinition : (Nat → List Int → AMem → Prop) → (Int → AMem → Prop) → Nat → List Int → AMem → Prop := fun X Q j v σ => am_sel [(am_v2 (fun x0 x1 σ => B_Part_isDefinition_0 X Q x0 x1 σ))] j v σ
def T_Part_isDefinition : List Int → AMem → (Int → AMem → Prop) → Prop := am_T B_Part_isDefinition
abbrev y_Part_isDefinition : MethodName := ⟨"LinkHouse$Part", "isDefinition", "(I)Z"⟩
def a_Part_isDefinition : AC := (27, (y_Part_isDefinition, prog_6_method_29_code, 2, (Option.some Jvm.ClassFile.FieldType.boolean)), [2, 0], 0, false, { frames := 1, cells := 0, slots := 0, locals := 29 }, T_Part_isDefinition)
set_option maxRecDepth 100000 in
theorem ms_Part_isDefinition : am_MSp a_Part_isDefinition := am_ms_v 3066 8 3064 3065 7 rfl (by decide +kernel)
abbrev k_Part_isDefinition : List AC := [a_Part_defines, a_Part_isIn]
set_option maxRecDepth 100000 in
theorem s_Part_isDefinition : (am_chkR { frames := 1, cells := 0, slots := 0, locals := 29 } k_Part_isDefinition && am_chkN c_Part_isDefinition { frames := 1, cells := 0, slots := 0, locals := 29 } && c_Part_isDefinition.all (am_chk "LinkHouse$Part" prog_6_method_29_code 2 (Option.some Jvm.ClassFile.FieldType.boolean) k_Part_isDefinition) && c_Part_isDefinition.all (am_chkL m_Part_isDefinition) && decide (m_Part_isDefinition[0]? = some (0, am_argp 0 [2, 0], [])) && decide (am_argn [2, 0] ≤ 2)) = true := by decide +kernel
set_option maxHeartbeats 150000 in
set_option maxRecDepth 100000 in
theorem h_Part_isDefinition : ∀ X Q j v σ, B_Part_isDefinition X Q j v σ → am_at GR k_Part_isDefinition c_Part_isDefinition m_Part_isDefinition X Q 25 j v σ := fun X Q => am_sel_all (P := fun j v σ => am_at GR k_Part_isDefinition c_Part_isDefinition m_Part_isDefinition X Q 25 j v σ) (⟨(am_v2_of (fun x0 x1 σ h => h)), trivial⟩)
set_option maxRecDepth 100000 in
theorem S_Part_isDefinition (l : Launch) (w : AW) : am_S l w GR a_Part_isDefinition := am_sound (rt := 0) (cal := k_Part_isDefinition) 27 y_Part_isDefinition prog_6_method_29_code 2 (Option.some Jvm.ClassFile.FieldType.boolean) [2, 0] false { frames := 1, cells := 0, slots := 0, locals := 29 } B_Part_isDefinition "LinkHouse$Part" c_Part_isDefinition m_Part_isDefinition 25 ms_Part_isDefinition (by decide +kernel) rfl rfl (am_cal (S_Part_defines l w) (am_cal (S_Part_isIn l w) (fun _ h => absurd h List.not_mem_nil))) s_Part_isDefinition h_Part_isDefinition
set_option maxRecDepth 100000 in
theorem of_Part_isDefinition {Q : Int → AMem → Prop} {x0 x1 : Int} {σ : AMem} (h : ∀ X : Nat → List Int → AMem → Prop, (∀ (x0 x1 : Int) (σ : AMem), B_Part_isDefinition_0 X Q x0 x1 σ → X 0 [x0, x1] σ) → X 0 [x0, x1] σ) : T_Part_isDefinition [x0, x1] σ Q := fun X hX => h X (fun x0 x1 σ h => hX 0 [x0, x1] σ h)
set_option maxRecDepth 100000 in
theorem iff_Part_isDefinition {Q : Int → AMem → Prop} {X : Nat → List Int → AMem → Prop} {x0 x1 : Int} {σ : AMem} : T_Part_isDefinition [x0, x1] σ Q ↔ B_Part_isDefinition_0 X Q x0 x1 σ := ⟨fun h => h (fun j v σ => B_Part_isDefinition X Q j v σ) (fun _ _ _ q => q), fun h _ hX => hX 0 _ _ h⟩
def c_Part_strength : List aE := [(0, 1, .aload_n 0, 1, 0, 0, []), (1, 0, .getfield 40, 3, 7, 17, [2, 0, 1101]), (4, 0, .iload_n 1, 1, 0, 0, []), (5, 0, .iaload, 1, 0, 0, []), (6, 0, .ldc 190, 2, 65522, 0, [3073]), (8, 0, .if_icmp .ne 7, 3, 0, 0, []), (11, 0, .iconst 2, 1, 0, 0, []), (12, 0, .goto 18, 3, 0, 0, []), (15, 0, .aload_n 0, 1, 0, 0, []), (16, 0, .getfield 37, 3, 7, 16, [2, 0, 1099]), (19, 0, .iload_n 1, 1, 0, 0, []), (20, 0, .iaload, 1, 0, 0, []), (21, 0, .iconst 1, 1, 0, 0, []), (22, 0, .if_icmp .ne 7, 3, 0, 0, []), (25, 0, .iconst 3, 1, 0, 0, []), (26, 0, .goto 4, 3, 0, 0, []), (29, 0, .iconst 1, 1, 0, 0, []), (30, 0, .ireturn, 1, 0, 0, [])]
def m_Part_strength : List aT := [(0, [(0, 2), (1, 0)], [])]
def B_Part_strength_0 (X : Nat → List Int → AMem → Prop) (Q : Int → AMem → Prop) (x0 x1 : Int) (σ : AMem) : Prop :=
  (if ly_k x0 = 27 then (if ly_k (am_rd GR σ x0 17) = 1 then 0 ≤ x1 ∧ x1 < ly_l (am_rd GR σ x0 17) ∧ (if (σ (am_rd GR σ x0 17) x1) = 65522 then
  Q 2 σ
  else
  (if ly_k x0 = 27 then (if ly_k (am_rd GR σ x0 16) = 1 then 0 ≤ x1 ∧ x1 < ly_l (am_rd GR σ x0 16) ∧ (if (σ (am_rd GR σ x0 16) x1) = 1 then
    Q 3 σ
    else
    Q 1 σ) else False) else False)) else False) else False)
def B_Part_strength : (Nat → List Int → AMem → Prop) → (Int → AMem → Prop) → Nat → List Int → AMem → Prop := fun X Q j v σ => am_sel [(am_v2 (fun x0 x1 σ => B_Part_strength_0 X Q x0 x1 σ))] j v σ
def T_Part_strength : List Int → AMem → (Int → AMem → Prop) → Prop := am_T B_Part_strength
abbrev y_Part_strength : MethodName := ⟨"LinkHouse$Part", "strength", "(I)I"⟩
def a_Part_strength : AC := (28, (y_Part_strength, prog_6_method_30_code, 2, (Option.some Jvm.ClassFile.FieldType.int)), [2, 0], 0, false, { frames := 0, cells := 0, slots := 0, locals := 0 }, T_Part_strength)
set_option maxRecDepth 100000 in
theorem ms_Part_strength : am_MSp a_Part_strength := am_ms_v 3081 8 3079 3080 7 rfl (by decide +kernel)
abbrev k_Part_strength : List AC := []
set_option maxRecDepth 100000 in
theorem s_Part_strength : (am_chkR { frames := 0, cells := 0, slots := 0, locals := 0 } k_Part_strength && am_chkN c_Part_strength { frames := 0, cells := 0, slots := 0, locals := 0 } && c_Part_strength.all (am_chk "LinkHouse$Part" prog_6_method_30_code 2 (Option.some Jvm.ClassFile.FieldType.int) k_Part_strength) && c_Part_strength.all (am_chkL m_Part_strength) && decide (m_Part_strength[0]? = some (0, am_argp 0 [2, 0], [])) && decide (am_argn [2, 0] ≤ 2)) = true := by decide +kernel
set_option maxHeartbeats 150000 in
set_option maxRecDepth 100000 in
theorem h_Part_strength : ∀ X Q j v σ, B_Part_strength X Q j v σ → am_at GR k_Part_strength c_Part_strength m_Part_strength X Q 23 j v σ := fun X Q => am_sel_all (P := fun j v σ => am_at GR k_Part_strength c_Part_strength m_Part_strength X Q 23 j v σ) (⟨(am_v2_of (fun x0 x1 σ h => h)), trivial⟩)
set_option maxRecDepth 100000 in
theorem S_Part_strength (l : Launch) (w : AW) : am_S l w GR a_Part_strength := am_sound (rt := 0) (cal := k_Part_strength) 28 y_Part_strength prog_6_method_30_code 2 (Option.some Jvm.ClassFile.FieldType.int) [2, 0] false { frames := 0, cells := 0, slots := 0, locals := 0 } B_Part_strength "LinkHouse$Part" c_Part_strength m_Part_strength 23 ms_Part_strength (by decide +kernel) rfl rfl (fun _ h => absurd h List.not_mem_nil) s_Part_strength h_Part_strength
set_option maxRecDepth 100000 in
theorem of_Part_strength {Q : Int → AMem → Prop} {x0 x1 : Int} {σ : AMem} (h : ∀ X : Nat → List Int → AMem → Prop, (∀ (x0 x1 : Int) (σ : AMem), B_Part_strength_0 X Q x0 x1 σ → X 0 [x0, x1] σ) → X 0 [x0, x1] σ) : T_Part_strength [x0, x1] σ Q := fun X hX => h X (fun x0 x1 σ h => hX 0 [x0, x1] σ h)
set_option maxRecDepth 100000 in
theorem iff_Part_strength {Q : Int → AMem → Prop} {X : Nat → List Int → AMem → Prop} {x0 x1 : Int} {σ : AMem} : T_Part_strength [x0, x1] σ Q ↔ B_Part_strength_0 X Q x0 x1 σ := ⟨fun h => h (fun j v σ => B_Part_strength X Q j v σ) (fun _ _ _ q => q), fun h _ hX => hX 0 _ _ h⟩
def c_Names_define : List aE := [(0, 1, .aload_n 2, 1, 0, 0, []), (1, 0, .iload_n 3, 1, 0, 0, []), (2, 0, .invokevirtual 114, 3, 28, 7, [3078]), (5, 0, .istore 4, 2, 0, 0, []), (7, 0, .iload 4, 2, 0, 0, []), (9, 0, .aload_n 1, 1, 0, 0, []), (10, 0, .getfield 74, 3, 3, 2, [0, 0, 119]), (13, 0, .if_icmp .ge 5, 3, 0, 0, []), (16, 0, .iconst 1, 1, 0, 0, []), (17, 0, .ireturn, 1, 1, 0, []), (18, 0, .iload 4, 2, 0, 0, []), (20, 0, .aload_n 1, 1, 0, 0, []), (21, 0, .getfield 74, 3, 3, 2, [0, 0, 119]), (24, 0, .if_icmp .ne 55, 3, 0, 0, []), (27, 0, .iload 4, 2, 0, 0, []), (29, 0, .iconst 2, 1, 0, 0, []), (30, 0, .if_icmp .ne 37, 3, 0, 0, []), (33, 0, .aload_n 1, 1, 0, 0, []), (34, 0, .aload_n 1, 1, 0, 0, []), (35, 0, .getfield 116, 3, 3, 12, [1, 0, 142]), (38, 0, .aload_n 2, 1, 0, 0, []), (39, 0, .getfield 119, 3, 7, 20, [2, 0, 1108]), (42, 0, .iload_n 3, 1, 0, 0, []), (43, 0, .laload, 1, 0, 0, []), (44, 0, .invokestatic 123, 3, 9993, 0, [3082]), (47, 0, .putfield 116, 3, 3, 12, [1, 0, 142]), (50, 0, .aload_n 1, 1, 0, 0, []), (51, 0, .aload_n 1, 1, 0, 0, []), (52, 0, .getfield 129, 3, 3, 13, [1, 0, 144]), (55, 0, .aload_n 2, 1, 0, 0, []), (56, 0, .getfield 132, 3, 7, 19, [2, 0, 1105]), (59, 0, .iload_n 3, 1, 0, 0, []), (60, 0, .laload, 1, 0, 0, []), (61, 0, .invokestatic 123, 3, 9993, 0, [3082]), (64, 0, .putfield 129, 3, 3, 13, [1, 0, 144]), (67, 2, .iload 4, 2, 0, 0, []), (69, 0, .iconst 3, 1, 0, 0, []), (70, 0, .if_icmp .ge 7, 3, 0, 0, []), (73, 0, .iconst 1, 1, 0, 0, []), (74, 0, .goto 4, 3, 0, 0, []), (77, 0, .iconst 0, 1, 0, 0, []), (78, 0, .ireturn, 1, 1, 0, []), (79, 0, .aload_n 1, 1, 0, 0, []), (80, 0, .getfield 74, 3, 3, 2, [0, 0, 119]), (83, 0, .ifCond .ne 20, 3, 0, 0, []), (86, 0, .aload_n 0, 1, 0, 0, []), (87, 0, .getfield 20, 3, 2, 2, [2, 0, 195]), (90, 0, .aload_n 0, 1, 0, 0, []), (91, 0, .dup, 1, 0, 0, []), (92, 0, .getfield 28, 3, 2, 4, [0, 0, 199]), (95, 0, .dup_x1, 1, 0, 0, []), (96, 0, .iconst 1, 1, 0, 0, []), (97, 0, .iadd, 1, 0, 0, []), (98, 0, .putfield 28, 3, 2, 4, [0, 0, 199]), (101, 0, .aload_n 1, 1, 0, 0, []), (102, 0, .aastore, 1, 6, 3, []), (103, 3, .aload_n 1, 1, 0, 0, []), (104, 0, .iload 4, 2, 0, 0, []), (106, 0, .putfield 74, 3, 3, 2, [0, 0, 119]), (109, 0, .aload_n 1, 1, 0, 0, []), (110, 0, .aload_n 2, 1, 0, 0, []), (111, 0, .putfield 106, 3, 3, 11, [2, 0, 140]), (114, 0, .aload_n 1, 1, 0, 0, []), (115, 0, .iload_n 3, 1, 0, 0, []), (116, 0, .putfield 135, 3, 3, 3, [0, 0, 122]), (119, 0, .aload_n 1, 1, 0, 0, []), (120, 0, .aload_n 2, 1, 0, 0, []), (121, 0, .getfield 119, 3, 7, 20, [2, 0, 1108]), (124, 0, .iload_n 3, 1, 0, 0, []), (125, 0, .laload, 1, 0, 0, []), (126, 0, .putfield 116, 3, 3, 12, [1, 0, 142]), (129, 0, .aload_n 1, 1, 0, 0, []), (130, 0, .aload_n 2, 1, 0, 0, []), (131, 0, .getfield 132, 3, 7, 19, [2, 0, 1105]), (134, 0, .iload_n 3, 1, 0, 0, []), (135, 0, .laload, 1, 0, 0, []), (136, 0, .putfield 129, 3, 3, 13, [1, 0, 144]), (139, 0, .iconst 1, 1, 0, 0, []), (140, 0, .ireturn, 1, 1, 0, [])]
def m_Names_define : List aT := [(0, [(0, 2), (1, 2), (2, 2), (3, 0)], []), (67, [(4, 0)], []), (103, [(1, 2), (2, 2), (3, 0), (4, 0)], [])]
def B_Names_define_0 (X : Nat → List Int → AMem → Prop) (Q : Int → AMem → Prop) (x1 x2 x3 : Int) (σ : AMem) : Prop :=
  (if ly_k x2 = 27 then T_Part_strength [x2, x3] σ (fun r1 σ2 => (if ly_k x1 = 23 then (if r1 < (am_rd GR σ2 x1 2) then
  Q 1 σ2
  else
  (if ly_k x1 = 23 then (if r1 = (am_rd GR σ2 x1 2) then
    (if r1 = 2 then
      (if ly_k x1 = 23 then (if ly_k x2 = 27 then (if ly_k (am_rd GR σ2 x2 20) = 4 then 0 ≤ x3 ∧ x3 < ly_l (am_rd GR σ2 x2 20) ∧ (if ly_k x1 = 23 then (if ly_fin x1 12 = 0 then am_let (am_upd σ2 x1 12 (am_max (am_rd GR σ2 x1 12) (σ2 (am_rd GR σ2 x2 20) x3))) (fun σ5 => (if ly_k x1 = 23 then (if ly_k x2 = 27 then (if ly_k (am_rd GR σ5 x2 19) = 4 then 0 ≤ x3 ∧ x3 < ly_l (am_rd GR σ5 x2 19) ∧ (if ly_k x1 = 23 then (if ly_fin x1 13 = 0 then am_let (am_upd σ5 x1 13 (am_max (am_rd GR σ5 x1 13) (σ5 (am_rd GR σ5 x2 19) x3))) (fun σ6 => X 1 [r1] σ6) else False) else False) else False) else False) else False)) else False) else False) else False) else False) else False)
      else
      X 1 [r1] σ2)
    else
    (if ly_k x1 = 23 then (if (am_rd GR σ2 x1 2) = 0 then
      am_r32 ((σ2 16 4) + 1) ∧ am_let (am_upd σ2 16 4 ((σ2 16 4) + 1)) (fun σ3 => (if x1 = 0 ∨ ly_k x1 = 23 then 0 ≤ (σ2 16 4) ∧ (σ2 16 4) < 4128 ∧ am_let (am_upd σ3 19 (σ2 16 4) x1) (fun σ4 => X 2 [x1, x2, x3, r1] σ4) else False))
      else
      X 2 [x1, x2, x3, r1] σ2) else False)) else False)) else False)) else False)
def B_Names_define_1 (X : Nat → List Int → AMem → Prop) (Q : Int → AMem → Prop) (x4 : Int) (σ : AMem) : Prop :=
  (if x4 < 3 then
  Q 1 σ
  else
  Q 0 σ)
def B_Names_define_2 (X : Nat → List Int → AMem → Prop) (Q : Int → AMem → Prop) (x1 x2 x3 x4 : Int) (σ : AMem) : Prop :=
  (if ly_k x1 = 23 then (if ly_fin x1 2 = 0 then am_let (am_upd σ x1 2 x4) (fun σ1 => (if ly_k x1 = 23 then (if ly_fin x1 11 = 0 then am_let (am_upd σ1 x1 11 x2) (fun σ2 => (if ly_k x1 = 23 then (if ly_fin x1 3 = 0 then am_let (am_upd σ2 x1 3 x3) (fun σ3 => (if ly_k x2 = 27 then (if ly_k (am_rd GR σ3 x2 20) = 4 then 0 ≤ x3 ∧ x3 < ly_l (am_rd GR σ3 x2 20) ∧ (if ly_k x1 = 23 then (if ly_fin x1 12 = 0 then am_let (am_upd σ3 x1 12 (σ3 (am_rd GR σ3 x2 20) x3)) (fun σ4 => (if ly_k x2 = 27 then (if ly_k (am_rd GR σ4 x2 19) = 4 then 0 ≤ x3 ∧ x3 < ly_l (am_rd GR σ4 x2 19) ∧ (if ly_k x1 = 23 then (if ly_fin x1 13 = 0 then am_let (am_upd σ4 x1 13 (σ4 (am_rd GR σ4 x2 19) x3)) (fun σ5 => Q 1 σ5) else False) else False) else False) else False)) else False) else False) else False) else False)) else False) else False)) else False) else False)) else False) else False)
def B_Names_define : (Nat → List Int → AMem → Prop) → (Int → AMem → Prop) → Nat → List Int → AMem → Prop := fun X Q j v σ => am_sel [(am_v4 (fun t x1 x2 x3 σ => if t = 16 then B_Names_define_0 X Q x1 x2 x3 σ else False)), (am_v1 (fun x4 σ => B_Names_define_1 X Q x4 σ)), (am_v4 (fun x1 x2 x3 x4 σ => B_Names_define_2 X Q x1 x2 x3 x4 σ))] j v σ
def T_Names_define : List Int → AMem → (Int → AMem → Prop) → Prop := am_T B_Names_define
abbrev y_Names_define : MethodName := ⟨"LinkHouse$Names", "define", "(LLinkHouse$Name;LLinkHouse$Part;I)Z"⟩
def a_Names_define : AC := (29, (y_Names_define, prog_5_method_11_code, 5, (Option.some Jvm.ClassFile.FieldType.boolean)), [2, 2, 2, 0], 0, false, { frames := 1, cells := 0, slots := 0, locals := 34 }, T_Names_define)
set_option maxRecDepth 100000 in
theorem ms_Names_define : am_MSp a_Names_define := am_ms_v 3077 3 3075 3076 2 rfl (by decide +kernel)
abbrev k_Names_define : List AC := [a_Part_strength]
set_option maxRecDepth 100000 in
theorem s_Names_define : (am_chkR { frames := 1, cells := 0, slots := 0, locals := 34 } k_Names_define && am_chkN c_Names_define { frames := 1, cells := 0, slots := 0, locals := 34 } && c_Names_define.all (am_chk "LinkHouse$Names" prog_5_method_11_code 5 (Option.some Jvm.ClassFile.FieldType.boolean) k_Names_define) && c_Names_define.all (am_chkL m_Names_define) && decide (m_Names_define[0]? = some (0, am_argp 0 [2, 2, 2, 0], [])) && decide (am_argn [2, 2, 2, 0] ≤ 5)) = true := by decide +kernel
set_option maxHeartbeats 150000 in
set_option maxRecDepth 100000 in
theorem h_Names_define : ∀ X Q j v σ, B_Names_define X Q j v σ → am_at GR k_Names_define c_Names_define m_Names_define X Q 84 j v σ := fun X Q => am_sel_all (P := fun j v σ => am_at GR k_Names_define c_Names_define m_Names_define X Q 84 j v σ) (⟨(am_v4_of (fun t x1 x2 x3 σ h => am_tk (fun e => by subst e; exact fun h => h) h)), ⟨(am_v1_of (fun x4 σ h => h)), ⟨(am_v4_of (fun x1 x2 x3 x4 σ h => h)), trivial⟩⟩⟩)
set_option maxRecDepth 100000 in
theorem S_Names_define (l : Launch) (w : AW) : am_S l w GR a_Names_define := am_sound (rt := 0) (cal := k_Names_define) 29 y_Names_define prog_5_method_11_code 5 (Option.some Jvm.ClassFile.FieldType.boolean) [2, 2, 2, 0] false { frames := 1, cells := 0, slots := 0, locals := 34 } B_Names_define "LinkHouse$Names" c_Names_define m_Names_define 84 ms_Names_define (by decide +kernel) rfl rfl (am_cal (S_Part_strength l w) (fun _ h => absurd h List.not_mem_nil)) s_Names_define h_Names_define
set_option maxRecDepth 100000 in
theorem of_Names_define {Q : Int → AMem → Prop} {x1 x2 x3 : Int} {σ : AMem} (h : ∀ X : Nat → List Int → AMem → Prop, (∀ (x1 x2 x3 : Int) (σ : AMem), B_Names_define_0 X Q x1 x2 x3 σ → X 0 [16, x1, x2, x3] σ) → (∀ (x4 : Int) (σ : AMem), B_Names_define_1 X Q x4 σ → X 1 [x4] σ) → (∀ (x1 x2 x3 x4 : Int) (σ : AMem), B_Names_define_2 X Q x1 x2 x3 x4 σ → X 2 [x1, x2, x3, x4] σ) → X 0 [16, x1, x2, x3] σ) : T_Names_define [16, x1, x2, x3] σ Q := fun X hX => h X (fun x1 x2 x3 σ h => hX 0 [16, x1, x2, x3] σ h) (fun x4 σ h => hX 1 [x4] σ h) (fun x1 x2 x3 x4 σ h => hX 2 [x1, x2, x3, x4] σ h)
def c_LinkHouse_tells : List aE := [(0, 1, .aload_n 0, 1, 0, 0, []), (1, 0, .aload_n 1, 1, 0, 0, []), (2, 0, .getfield 202, 3, 3, 1, [0, 0, 117]), (5, 0, .putfield 204, 3, 0, 20, [0, 0, 1233]), (8, 0, .aload_n 1, 1, 0, 0, []), (9, 0, .getfield 207, 3, 3, 0, [2, 0, 114]), (12, 0, .iconst 0, 1, 0, 0, []), (13, 0, .aload_n 0, 1, 0, 0, []), (14, 0, .getfield 37, 3, 0, 6, [2, 0, 1219]), (17, 0, .iconst 0, 1, 0, 0, []), (18, 0, .aload_n 1, 1, 0, 0, []), (19, 0, .getfield 202, 3, 3, 1, [0, 0, 117]), (22, 0, .invokestatic 210, 3, 9999, 0, [3089]), (25, 0, .return_, 1, 0, 0, [])]
def m_LinkHouse_tells : List aT := [(0, [(0, 2), (1, 2)], [])]
def B_LinkHouse_tells_0 (X : Nat → List Int → AMem → Prop) (Q : Int → AMem → Prop) (x1 : Int) (σ : AMem) : Prop :=
  (if ly_k x1 = 23 then am_let (am_upd σ 1 20 (am_rd GR σ x1 1)) (fun σ1 => (if ly_k x1 = 23 then (if ly_k x1 = 23 then (if ly_k (am_rd GR σ1 x1 0) = 2 then (if ly_k (σ1 1 6) = 2 then (0 : Int) ≤ 0 ∧ (0 : Int) ≤ 0 ∧ 0 ≤ (am_rd GR σ1 x1 1) ∧ 0 + (am_rd GR σ1 x1 1) ≤ ly_l (am_rd GR σ1 x1 0) ∧ 0 + (am_rd GR σ1 x1 1) ≤ ly_l (σ1 1 6) ∧ am_let (am_cp σ1 (am_rd GR σ1 x1 0) 0 (σ1 1 6) 0 (am_rd GR σ1 x1 1)) (fun σ2 => Q 0 σ2) else False) else False) else False) else False)) else False)
def B_LinkHouse_tells : (Nat → List Int → AMem → Prop) → (Int → AMem → Prop) → Nat → List Int → AMem → Prop := fun X Q j v σ => am_sel [(am_v2 (fun t x1 σ => if t = 1 then B_LinkHouse_tells_0 X Q x1 σ else False))] j v σ
def T_LinkHouse_tells : List Int → AMem → (Int → AMem → Prop) → Prop := am_T B_LinkHouse_tells
abbrev y_LinkHouse_tells : MethodName := ⟨"LinkHouse", "tells", "(LLinkHouse$Name;)V"⟩
def a_LinkHouse_tells : AC := (30, (y_LinkHouse_tells, prog_1_method_9_code, 2, (Option.none : Option Jvm.ClassFile.FieldType)), [2, 2], 3, false, { frames := 1, cells := 0, slots := 0, locals := 34 }, T_LinkHouse_tells)
set_option maxRecDepth 100000 in
theorem ms_LinkHouse_tells : am_MSp a_LinkHouse_tells := am_ms_v 3088 1 3087 100009 0 rfl (by decide +kernel)
abbrev k_LinkHouse_tells : List AC := []
set_option maxRecDepth 100000 in
theorem s_LinkHouse_tells : (am_chkR { frames := 1, cells := 0, slots := 0, locals := 34 } k_LinkHouse_tells && am_chkN c_LinkHouse_tells { frames := 1, cells := 0, slots := 0, locals := 34 } && c_LinkHouse_tells.all (am_chk "LinkHouse" prog_1_method_9_code 2 (Option.none : Option Jvm.ClassFile.FieldType) k_LinkHouse_tells) && c_LinkHouse_tells.all (am_chkL m_LinkHouse_tells) && decide (m_LinkHouse_tells[0]? = some (0, am_argp 0 [2, 2], [])) && decide (am_argn [2, 2] ≤ 2)) = true := by decide +kernel
set_option maxHeartbeats 150000 in
set_option maxRecDepth 100000 in
theorem h_LinkHouse_tells : ∀ X Q j v σ, B_LinkHouse_tells X Q j v σ → am_at GR k_LinkHouse_tells c_LinkHouse_tells m_LinkHouse_tells X Q 20 j v σ := fun X Q => am_sel_all (P := fun j v σ => am_at GR k_LinkHouse_tells c_LinkHouse_tells m_LinkHouse_tells X Q 20 j v σ) (⟨(am_v2_of (fun t x1 σ h => am_tk (fun e => by subst e; exact fun h => h) h)), trivial⟩)
set_option maxRecDepth 100000 in
theorem S_LinkHouse_tells (l : Launch) (w : AW) : am_S l w GR a_LinkHouse_tells := am_sound (rt := 3) (cal := k_LinkHouse_tells) 30 y_LinkHouse_tells prog_1_method_9_code 2 (Option.none : Option Jvm.ClassFile.FieldType) [2, 2] false { frames := 1, cells := 0, slots := 0, locals := 34 } B_LinkHouse_tells "LinkHouse" c_LinkHouse_tells m_LinkHouse_tells 20 ms_LinkHouse_tells (by decide +kernel) rfl rfl (fun _ h => absurd h List.not_mem_nil) s_LinkHouse_tells h_LinkHouse_tells
set_option maxRecDepth 100000 in
theorem of_LinkHouse_tells {Q : Int → AMem → Prop} {x1 : Int} {σ : AMem} (h : ∀ X : Nat → List Int → AMem → Prop, (∀ (x1 : Int) (σ : AMem), B_LinkHouse_tells_0 X Q x1 σ → X 0 [1, x1] σ) → X 0 [1, x1] σ) : T_LinkHouse_tells [1, x1] σ Q := fun X hX => h X (fun x1 σ h => hX 0 [1, x1] σ h)
set_option maxRecDepth 100000 in
theorem iff_LinkHouse_tells {Q : Int → AMem → Prop} {X : Nat → List Int → AMem → Prop} {x1 : Int} {σ : AMem} : T_LinkHouse_tells [1, x1] σ Q ↔ B_LinkHouse_tells_0 X Q x1 σ := ⟨fun h => h (fun j v σ => B_LinkHouse_tells X Q j v σ) (fun _ _ _ q => q), fun h _ hX => hX 0 _ _ h⟩
def c_LinkHouse_take : List aE := [(0, 1, .aload_n 1, 1, 0, 0, []), (1, 0, .iconst 1, 1, 0, 0, []), (2, 0, .putfield 256, 3, 7, 6, [0, 1, 1079]), (5, 0, .aload_n 0, 1, 0, 0, []), (6, 0, .getfield 46, 3, 0, 8, [2, 0, 1221]), (9, 0, .aload_n 0, 1, 0, 0, []), (10, 0, .getfield 259, 3, 0, 21, [0, 0, 1234]), (13, 0, .iload_n 2, 1, 0, 0, []), (14, 0, .iastore, 1, 0, 0, []), (15, 0, .aload_n 0, 1, 0, 0, []), (16, 0, .getfield 50, 3, 0, 9, [2, 0, 1222]), (19, 0, .aload_n 0, 1, 0, 0, []), (20, 0, .getfield 259, 3, 0, 21, [0, 0, 1234]), (23, 0, .iload_n 3, 1, 0, 0, []), (24, 0, .iastore, 1, 0, 0, []), (25, 0, .aload_n 0, 1, 0, 0, []), (26, 0, .getfield 42, 3, 0, 7, [2, 0, 1220]), (29, 0, .aload_n 0, 1, 0, 0, []), (30, 0, .dup, 1, 0, 0, []), (31, 0, .getfield 259, 3, 0, 21, [0, 0, 1234]), (34, 0, .dup_x1, 1, 0, 0, []), (35, 0, .iconst 1, 1, 0, 0, []), (36, 0, .iadd, 1, 0, 0, []), (37, 0, .putfield 259, 3, 0, 21, [0, 0, 1234]), (40, 0, .aload_n 1, 1, 0, 0, []), (41, 0, .aastore, 1, 5, 7, []), (42, 0, .aload_n 0, 1, 0, 0, []), (43, 0, .aload_n 1, 1, 0, 0, []), (44, 0, .invokevirtual 262, 3, 25, 0, [3032]), (47, 0, .iconst 1, 1, 0, 0, []), (48, 0, .istore 4, 2, 0, 0, []), (50, 0, .iconst 1, 1, 0, 0, []), (51, 0, .istore 5, 2, 0, 0, []), (53, 2, .iload 5, 2, 0, 0, []), (55, 0, .aload_n 1, 1, 0, 0, []), (56, 0, .getfield 247, 3, 7, 4, [0, 0, 1075]), (59, 0, .if_icmp .ge 110, 3, 0, 0, []), (62, 0, .aload_n 1, 1, 0, 0, []), (63, 0, .getfield 266, 3, 7, 16, [2, 0, 1100]), (66, 0, .iload 5, 2, 0, 0, []), (68, 0, .iaload, 1, 0, 0, []), (69, 0, .ifCond .ne 6, 3, 0, 0, []), (72, 0, .goto 91, 3, 0, 0, []), (75, 0, .aload_n 0, 1, 0, 0, []), (76, 0, .getfield 25, 3, 0, 3, [2, 0, 1216]), (79, 0, .aload_n 1, 1, 0, 0, []), (80, 0, .iload 5, 2, 0, 0, []), (82, 0, .invokevirtual 229, 3, 21, 2, [3044]), (85, 0, .astore 6, 2, 0, 0, []), (87, 0, .aload_n 1, 1, 0, 0, []), (88, 0, .getfield 269, 3, 7, 25, [2, 0, 1118]), (91, 0, .iload 5, 2, 0, 0, []), (93, 0, .aload 6, 2, 0, 0, []), (95, 0, .aastore, 1, 6, 3, []), (96, 0, .aload_n 1, 1, 0, 0, []), (97, 0, .iload 5, 2, 0, 0, []), (99, 0, .invokevirtual 272, 3, 27, 7, [3063]), (102, 0, .ifCond .ne 32, 3, 0, 0, []), (105, 0, .aload 6, 2, 0, 0, []), (107, 0, .dup, 1, 0, 0, []), (108, 0, .getfield 275, 3, 3, 8, [0, 1, 133]), (111, 0, .aload_n 1, 1, 0, 0, []), (112, 0, .getfield 266, 3, 7, 16, [2, 0, 1100]), (115, 0, .iload 5, 2, 0, 0, []), (117, 0, .iaload, 1, 0, 0, []), (118, 0, .iconst 1, 1, 0, 0, []), (119, 0, .if_icmp .ne 7, 3, 0, 0, []), (122, 0, .iconst 1, 1, 0, 0, []), (123, 0, .goto 4, 3, 0, 0, []), (126, 0, .iconst 0, 1, 0, 0, []), (127, 3, .ior, 1, 0, 0, []), (128, 0, .putfield 275, 3, 3, 8, [0, 1, 133]), (131, 0, .goto 32, 3, 0, 0, []), (134, 0, .iload 4, 2, 0, 0, []), (136, 0, .ifCond .eq 27, 3, 0, 0, []), (139, 0, .aload_n 0, 1, 0, 0, []), (140, 0, .getfield 25, 3, 0, 3, [2, 0, 1216]), (143, 0, .aload 6, 2, 0, 0, []), (145, 0, .aload_n 1, 1, 0, 0, []), (146, 0, .iload 5, 2, 0, 0, []), (148, 0, .invokevirtual 278, 3, 29, 2, [3074]), (151, 0, .ifCond .ne 12, 3, 0, 0, []), (154, 0, .aload_n 0, 1, 0, 0, []), (155, 0, .aload 6, 2, 0, 0, []), (157, 0, .invokevirtual 282, 3, 30, 0, [3085]), (160, 0, .iconst 0, 1, 0, 0, []), (161, 0, .istore 4, 2, 0, 0, []), (163, 4, .iinc 5 1, 3, 0, 0, []), (166, 0, .goto (-113), 3, 0, 0, []), (169, 0, .iload 4, 2, 0, 0, []), (171, 0, .ireturn, 1, 1, 0, [])]
def m_LinkHouse_take : List aT := [(0, [(0, 2), (1, 2), (2, 0), (3, 0)], []), (53, [(0, 2), (1, 2), (4, 0), (5, 0)], []), (127, [(0, 2), (1, 2), (4, 0), (5, 0)], [0, 0, 2]), (163, [(0, 2), (1, 2), (4, 0), (5, 0)], [])]
def B_LinkHouse_take_0 (X : Nat → List Int → AMem → Prop) (Q : Int → AMem → Prop) (x1 x2 x3 : Int) (σ : AMem) : Prop :=
  (if ly_k x1 = 27 then (if ly_fin x1 6 = 0 then am_let (am_upd σ x1 6 1) (fun σ1 => 0 ≤ (σ1 1 21) ∧ (σ1 1 21) < 64 ∧ am_let (am_upd σ1 8280 (σ1 1 21) x2) (fun σ2 => 0 ≤ (σ2 1 21) ∧ (σ2 1 21) < 64 ∧ am_let (am_upd σ2 8281 (σ2 1 21) x3) (fun σ3 => am_r32 ((σ3 1 21) + 1) ∧ am_let (am_upd σ3 1 21 ((σ3 1 21) + 1)) (fun σ4 => (if x1 = 0 ∨ ly_k x1 = 27 then 0 ≤ (σ3 1 21) ∧ (σ3 1 21) < 64 ∧ am_let (am_upd σ4 8279 (σ3 1 21) x1) (fun σ5 => T_LinkHouse_groups [1, x1] σ5 (fun r6 σ7 => X 1 [1, x1, 1, 1] σ7)) else False))))) else False) else False)
def B_LinkHouse_take_1 (X : Nat → List Int → AMem → Prop) (Q : Int → AMem → Prop) (x1 x4 x5 : Int) (σ : AMem) : Prop :=
  (if ly_k x1 = 27 then (if x5 < (am_rd GR σ x1 4) then
  (if ly_k x1 = 27 then (if ly_k (am_rd GR σ x1 16) = 1 then 0 ≤ x5 ∧ x5 < ly_l (am_rd GR σ x1 16) ∧ (if (σ (am_rd GR σ x1 16) x5) = 0 then
    X 3 [1, x1, x4, x5] σ
    else
    T_Names_take [16, x1, x5] σ (fun r1 σ2 => (if ly_k x1 = 27 then (if ly_k (am_rd GR σ2 x1 25) = 6 then (if r1 = 0 ∨ ly_k r1 = 23 then 0 ≤ x5 ∧ x5 < ly_l (am_rd GR σ2 x1 25) ∧ am_let (am_upd σ2 (am_rd GR σ2 x1 25) x5 r1) (fun σ3 => (if ly_k x1 = 27 then T_Part_isDefinition [x1, x5] σ3 (fun r4 σ5 => (if r4 = 0 then
      (if ly_k r1 = 23 then (if ly_k x1 = 27 then (if ly_k (am_rd GR σ5 x1 16) = 1 then 0 ≤ x5 ∧ x5 < ly_l (am_rd GR σ5 x1 16) ∧ (if (σ5 (am_rd GR σ5 x1 16) x5) = 1 then
        X 2 [1, x1, x4, x5, 1, (am_rd GR σ5 r1 8), r1] σ5
        else
        X 2 [1, x1, x4, x5, 0, (am_rd GR σ5 r1 8), r1] σ5) else False) else False) else False)
      else
      (if x4 = 0 then
        X 3 [1, x1, x4, x5] σ5
        else
        T_Names_define [16, r1, x1, x5] σ5 (fun r6 σ7 => (if r6 = 0 then
          T_LinkHouse_tells [1, r1] σ7 (fun r8 σ9 => X 3 [1, x1, 0, x5] σ9)
          else
          X 3 [1, x1, x4, x5] σ7))))) else False)) else False) else False) else False))) else False) else False)
  else
  (if x4 = 0 ∨ x4 = 1 then Q x4 σ else False)) else False)
def B_LinkHouse_take_2 (X : Nat → List Int → AMem → Prop) (Q : Int → AMem → Prop) (x1 x4 x5 s0 s1 s2 : Int) (σ : AMem) : Prop :=
  (if ly_k s2 = 23 then (if ly_fin s2 8 = 0 then (if (i_or s1 s0) = 0 ∨ (i_or s1 s0) = 1 then am_let (am_upd σ s2 8 (i_or s1 s0)) (fun σ1 => X 3 [1, x1, x4, x5] σ1) else False) else False) else False)
def B_LinkHouse_take_3 (X : Nat → List Int → AMem → Prop) (Q : Int → AMem → Prop) (x1 x4 x5 : Int) (σ : AMem) : Prop :=
  am_r32 (x5 + 1) ∧ X 1 [1, x1, x4, (x5 + 1)] σ
def B_LinkHouse_take : (Nat → List Int → AMem → Prop) → (Int → AMem → Prop) → Nat → List Int → AMem → Prop := fun X Q j v σ => am_sel [(am_v4 (fun t x1 x2 x3 σ => if t = 1 then B_LinkHouse_take_0 X Q x1 x2 x3 σ else False)), (am_v4 (fun t x1 x4 x5 σ => if t = 1 then B_LinkHouse_take_1 X Q x1 x4 x5 σ else False)), (am_v7 (fun t x1 x4 x5 s0 s1 s2 σ => if t = 1 then B_LinkHouse_take_2 X Q x1 x4 x5 s0 s1 s2 σ else False)), (am_v4 (fun t x1 x4 x5 σ => if t = 1 then B_LinkHouse_take_3 X Q x1 x4 x5 σ else False))] j v σ
def T_LinkHouse_take : List Int → AMem → (Int → AMem → Prop) → Prop := am_T B_LinkHouse_take
abbrev y_LinkHouse_take : MethodName := ⟨"LinkHouse", "take", "(LLinkHouse$Part;II)Z"⟩
def a_LinkHouse_take : AC := (31, (y_LinkHouse_take, prog_1_method_11_code, 7, (Option.some Jvm.ClassFile.FieldType.boolean)), [2, 2, 0, 0], 0, false, { frames := 6, cells := 0, slots := 0, locals := 193 }, T_LinkHouse_take)
set_option maxRecDepth 100000 in
theorem ms_LinkHouse_take : am_MSp a_LinkHouse_take := am_ms_v 3031 1 3030 100007 0 rfl (by decide +kernel)
abbrev k_LinkHouse_take : List AC := [a_LinkHouse_groups, a_Names_take, a_Part_isDefinition, a_Names_define, a_LinkHouse_tells]
set_option maxRecDepth 100000 in
theorem s_LinkHouse_take : (am_chkR { frames := 6, cells := 0, slots := 0, locals := 193 } k_LinkHouse_take && am_chkN c_LinkHouse_take { frames := 6, cells := 0, slots := 0, locals := 193 } && c_LinkHouse_take.all (am_chk "LinkHouse" prog_1_method_11_code 7 (Option.some Jvm.ClassFile.FieldType.boolean) k_LinkHouse_take) && c_LinkHouse_take.all (am_chkL m_LinkHouse_take) && decide (m_LinkHouse_take[0]? = some (0, am_argp 0 [2, 2, 0, 0], [])) && decide (am_argn [2, 2, 0, 0] ≤ 7)) = true := by decide +kernel
set_option maxHeartbeats 150000 in
set_option maxRecDepth 100000 in
theorem h_LinkHouse_take : ∀ X Q j v σ, B_LinkHouse_take X Q j v σ → am_at GR k_LinkHouse_take c_LinkHouse_take m_LinkHouse_take X Q 96 j v σ := fun X Q => am_sel_all (P := fun j v σ => am_at GR k_LinkHouse_take c_LinkHouse_take m_LinkHouse_take X Q 96 j v σ) (⟨(am_v4_of (fun t x1 x2 x3 σ h => am_tk (fun e => by subst e; exact fun h => h) h)), ⟨(am_v4_of (fun t x1 x4 x5 σ h => am_tk (fun e => by subst e; exact fun h => h) h)), ⟨(am_v7_of (fun t x1 x4 x5 s0 s1 s2 σ h => am_tk (fun e => by subst e; exact fun h => h) h)), ⟨(am_v4_of (fun t x1 x4 x5 σ h => am_tk (fun e => by subst e; exact fun h => h) h)), trivial⟩⟩⟩⟩)
set_option maxRecDepth 100000 in
theorem S_LinkHouse_take (l : Launch) (w : AW) : am_S l w GR a_LinkHouse_take := am_sound (rt := 0) (cal := k_LinkHouse_take) 31 y_LinkHouse_take prog_1_method_11_code 7 (Option.some Jvm.ClassFile.FieldType.boolean) [2, 2, 0, 0] false { frames := 6, cells := 0, slots := 0, locals := 193 } B_LinkHouse_take "LinkHouse" c_LinkHouse_take m_LinkHouse_take 96 ms_LinkHouse_take (by decide +kernel) rfl rfl (am_cal (S_LinkHouse_groups l w) (am_cal (S_Names_take l w) (am_cal (S_Part_isDefinition l w) (am_cal (S_Names_define l w) (am_cal (S_LinkHouse_tells l w) (fun _ h => absurd h List.not_mem_nil)))))) s_LinkHouse_take h_LinkHouse_take
set_option maxRecDepth 100000 in
theorem of_LinkHouse_take {Q : Int → AMem → Prop} {x1 x2 x3 : Int} {σ : AMem} (h : ∀ X : Nat → List Int → AMem → Prop, (∀ (x1 x2 x3 : Int) (σ : AMem), B_LinkHouse_take_0 X Q x1 x2 x3 σ → X 0 [1, x1, x2, x3] σ) → (∀ (x1 x4 x5 : Int) (σ : AMem), B_LinkHouse_take_1 X Q x1 x4 x5 σ → X 1 [1, x1, x4, x5] σ) → (∀ (x1 x4 x5 s0 s1 s2 : Int) (σ : AMem), B_LinkHouse_take_2 X Q x1 x4 x5 s0 s1 s2 σ → X 2 [1, x1, x4, x5, s0, s1, s2] σ) → (∀ (x1 x4 x5 : Int) (σ : AMem), B_LinkHouse_take_3 X Q x1 x4 x5 σ → X 3 [1, x1, x4, x5] σ) → X 0 [1, x1, x2, x3] σ) : T_LinkHouse_take [1, x1, x2, x3] σ Q := fun X hX => h X (fun x1 x2 x3 σ h => hX 0 [1, x1, x2, x3] σ h) (fun x1 x4 x5 σ h => hX 1 [1, x1, x4, x5] σ h) (fun x1 x4 x5 s0 s1 s2 σ h => hX 2 [1, x1, x4, x5, s0, s1, s2] σ h) (fun x1 x4 x5 σ h => hX 3 [1, x1, x4, x5] σ h)
def c_LinkHouse_takeArchive : List aE := [(0, 1, .iconst 1, 1, 0, 0, []), (1, 0, .istore_n 3, 1, 0, 0, []), (2, 2, .iload_n 3, 1, 0, 0, []), (3, 0, .ifCond .eq 94, 3, 0, 0, []), (6, 0, .iconst 0, 1, 0, 0, []), (7, 0, .istore_n 3, 1, 0, 0, []), (8, 0, .iconst 0, 1, 0, 0, []), (9, 0, .istore 4, 2, 0, 0, []), (11, 3, .iload 4, 2, 0, 0, []), (13, 0, .aload_n 1, 1, 0, 0, []), (14, 0, .getfield 295, 3, 6, 3, [0, 0, 1199]), (17, 0, .if_icmp .ge 77, 3, 0, 0, []), (20, 0, .aload_n 1, 1, 0, 0, []), (21, 0, .getfield 296, 3, 6, 1, [2, 0, 1196]), (24, 0, .iload 4, 2, 0, 0, []), (26, 0, .aaload, 1, 5, 0, []), (27, 0, .astore 5, 2, 0, 0, []), (29, 0, .aload 5, 2, 0, 0, []), (31, 0, .getfield 299, 3, 7, 7, [0, 1, 1081]), (34, 0, .ifCond .ne 11, 3, 0, 0, []), (37, 0, .aload 5, 2, 0, 0, []), (39, 0, .getfield 256, 3, 7, 6, [0, 1, 1079]), (42, 0, .ifCond .eq 7, 3, 0, 0, []), (45, 4, .iconst 0, 1, 0, 0, []), (46, 0, .goto 9, 3, 0, 0, []), (49, 0, .aload_n 0, 1, 0, 0, []), (50, 0, .aload 5, 2, 0, 0, []), (52, 0, .invokevirtual 302, 3, 17, 0, [2223]), (55, 5, .istore 6, 2, 0, 0, []), (57, 0, .iload 6, 2, 0, 0, []), (59, 0, .ifCond .ne 6, 3, 0, 0, []), (62, 0, .goto 26, 3, 0, 0, []), (65, 0, .aload 5, 2, 0, 0, []), (67, 0, .iload 6, 2, 0, 0, []), (69, 0, .invokevirtual 306, 3, 18, 7, [3022]), (72, 0, .iconst 1, 1, 0, 0, []), (73, 0, .istore_n 3, 1, 0, 0, []), (74, 0, .aload_n 0, 1, 0, 0, []), (75, 0, .aload 5, 2, 0, 0, []), (77, 0, .iload_n 2, 1, 0, 0, []), (78, 0, .iload 4, 2, 0, 0, []), (80, 0, .invokevirtual 309, 3, 31, 0, [3028]), (83, 0, .ifCond .ne 5, 3, 0, 0, []), (86, 0, .iconst 0, 1, 0, 0, []), (87, 0, .ireturn, 1, 1, 0, []), (88, 6, .iinc 4 1, 3, 0, 0, []), (91, 0, .goto (-80), 3, 0, 0, []), (94, 0, .goto (-92), 3, 0, 0, []), (97, 0, .iconst 1, 1, 0, 0, []), (98, 0, .ireturn, 1, 1, 0, [])]
def m_LinkHouse_takeArchive : List aT := [(0, [(0, 2), (1, 2), (2, 0)], []), (2, [(0, 2), (1, 2), (2, 0), (3, 0)], []), (11, [(0, 2), (1, 2), (2, 0), (3, 0), (4, 0)], []), (45, [(0, 2), (1, 2), (2, 0), (3, 0), (4, 0), (5, 2)], []), (55, [(0, 2), (1, 2), (2, 0), (3, 0), (4, 0), (5, 2)], [0]), (88, [(0, 2), (1, 2), (2, 0), (3, 0), (4, 0)], [])]
def B_LinkHouse_takeArchive_0 (X : Nat → List Int → AMem → Prop) (Q : Int → AMem → Prop) (x1 x2 : Int) (σ : AMem) : Prop :=
  X 1 [1, x1, x2, 1] σ
def B_LinkHouse_takeArchive_1 (X : Nat → List Int → AMem → Prop) (Q : Int → AMem → Prop) (x1 x2 x3 : Int) (σ : AMem) : Prop :=
  (if x3 = 0 then
  Q 1 σ
  else
  X 2 [1, x1, x2, 0, 0] σ)
def B_LinkHouse_takeArchive_2 (X : Nat → List Int → AMem → Prop) (Q : Int → AMem → Prop) (x1 x2 x3 x4 : Int) (σ : AMem) : Prop :=
  (if ly_k x1 = 26 then (if x4 < (am_rd GR σ x1 3) then
  (if ly_k x1 = 26 then (if ly_k (am_rd GR σ x1 1) = 5 then 0 ≤ x4 ∧ x4 < ly_l (am_rd GR σ x1 1) ∧ (if ly_k (σ (am_rd GR σ x1 1) x4) = 27 then (if (am_rd GR σ (σ (am_rd GR σ x1 1) x4) 7) = 0 then
    (if ly_k (σ (am_rd GR σ x1 1) x4) = 27 then (if (am_rd GR σ (σ (am_rd GR σ x1 1) x4) 6) = 0 then
      T_LinkHouse_helps [1, (σ (am_rd GR σ x1 1) x4)] σ (fun r1 σ2 => X 4 [1, x1, x2, x3, x4, (σ (am_rd GR σ x1 1) x4), r1] σ2)
      else
      X 3 [1, x1, x2, x3, x4, (σ (am_rd GR σ x1 1) x4)] σ) else False)
    else
    X 3 [1, x1, x2, x3, x4, (σ (am_rd GR σ x1 1) x4)] σ) else False) else False) else False)
  else
  X 1 [1, x1, x2, x3] σ) else False)
def B_LinkHouse_takeArchive_3 (X : Nat → List Int → AMem → Prop) (Q : Int → AMem → Prop) (x1 x2 x3 x4 x5 : Int) (σ : AMem) : Prop :=
  X 4 [1, x1, x2, x3, x4, x5, 0] σ
def B_LinkHouse_takeArchive_4 (X : Nat → List Int → AMem → Prop) (Q : Int → AMem → Prop) (x1 x2 x3 x4 x5 s0 : Int) (σ : AMem) : Prop :=
  (if s0 = 0 then
  X 5 [1, x1, x2, x3, x4] σ
  else
  (if ly_k x5 = 27 then T_Part_isCause [x5, s0] σ (fun r1 σ2 => T_LinkHouse_take [1, x5, x2, x4] σ2 (fun r3 σ4 => (if r3 = 0 then
    Q 0 σ4
    else
    X 5 [1, x1, x2, 1, x4] σ4))) else False))
def B_LinkHouse_takeArchive_5 (X : Nat → List Int → AMem → Prop) (Q : Int → AMem → Prop) (x1 x2 x3 x4 : Int) (σ : AMem) : Prop :=
  am_r32 (x4 + 1) ∧ X 2 [1, x1, x2, x3, (x4 + 1)] σ
def B_LinkHouse_takeArchive : (Nat → List Int → AMem → Prop) → (Int → AMem → Prop) → Nat → List Int → AMem → Prop := fun X Q j v σ => am_sel [(am_v3 (fun t x1 x2 σ => if t = 1 then B_LinkHouse_takeArchive_0 X Q x1 x2 σ else False)), (am_v4 (fun t x1 x2 x3 σ => if t = 1 then B_LinkHouse_takeArchive_1 X Q x1 x2 x3 σ else False)), (am_v5 (fun t x1 x2 x3 x4 σ => if t = 1 then B_LinkHouse_takeArchive_2 X Q x1 x2 x3 x4 σ else False)), (am_v6 (fun t x1 x2 x3 x4 x5 σ => if t = 1 then B_LinkHouse_takeArchive_3 X Q x1 x2 x3 x4 x5 σ else False)), (am_v7 (fun t x1 x2 x3 x4 x5 s0 σ => if t = 1 then B_LinkHouse_takeArchive_4 X Q x1 x2 x3 x4 x5 s0 σ else False)), (am_v5 (fun t x1 x2 x3 x4 σ => if t = 1 then B_LinkHouse_takeArchive_5 X Q x1 x2 x3 x4 σ else False))] j v σ
def T_LinkHouse_takeArchive : List Int → AMem → (Int → AMem → Prop) → Prop := am_T B_LinkHouse_takeArchive
abbrev y_LinkHouse_takeArchive : MethodName := ⟨"LinkHouse", "takeArchive", "(LLinkHouse$Container;I)Z"⟩
def a_LinkHouse_takeArchive : AC := (32, (y_LinkHouse_takeArchive, prog_1_method_13_code, 7, (Option.some Jvm.ClassFile.FieldType.boolean)), [2, 2, 0], 0, false, { frames := 7, cells := 0, slots := 0, locals := 227 }, T_LinkHouse_takeArchive)
set_option maxRecDepth 100000 in
theorem ms_LinkHouse_takeArchive : am_MSp a_LinkHouse_takeArchive := am_ms_v 2222 1 2221 100004 0 rfl (by decide +kernel)
abbrev k_LinkHouse_takeArchive : List AC := [a_LinkHouse_helps, a_Part_isCause, a_LinkHouse_take]
set_option maxRecDepth 100000 in
theorem s_LinkHouse_takeArchive : (am_chkR { frames := 7, cells := 0, slots := 0, locals := 227 } k_LinkHouse_takeArchive && am_chkN c_LinkHouse_takeArchive { frames := 7, cells := 0, slots := 0, locals := 227 } && c_LinkHouse_takeArchive.all (am_chk "LinkHouse" prog_1_method_13_code 7 (Option.some Jvm.ClassFile.FieldType.boolean) k_LinkHouse_takeArchive) && c_LinkHouse_takeArchive.all (am_chkL m_LinkHouse_takeArchive) && decide (m_LinkHouse_takeArchive[0]? = some (0, am_argp 0 [2, 2, 0], [])) && decide (am_argn [2, 2, 0] ≤ 7)) = true := by decide +kernel
set_option maxHeartbeats 150000 in
set_option maxRecDepth 100000 in
theorem h_LinkHouse_takeArchive : ∀ X Q j v σ, B_LinkHouse_takeArchive X Q j v σ → am_at GR k_LinkHouse_takeArchive c_LinkHouse_takeArchive m_LinkHouse_takeArchive X Q 55 j v σ := fun X Q => am_sel_all (P := fun j v σ => am_at GR k_LinkHouse_takeArchive c_LinkHouse_takeArchive m_LinkHouse_takeArchive X Q 55 j v σ) (⟨(am_v3_of (fun t x1 x2 σ h => am_tk (fun e => by subst e; exact fun h => h) h)), ⟨(am_v4_of (fun t x1 x2 x3 σ h => am_tk (fun e => by subst e; exact fun h => h) h)), ⟨(am_v5_of (fun t x1 x2 x3 x4 σ h => am_tk (fun e => by subst e; exact fun h => h) h)), ⟨(am_v6_of (fun t x1 x2 x3 x4 x5 σ h => am_tk (fun e => by subst e; exact fun h => h) h)), ⟨(am_v7_of (fun t x1 x2 x3 x4 x5 s0 σ h => am_tk (fun e => by subst e; exact fun h => h) h)), ⟨(am_v5_of (fun t x1 x2 x3 x4 σ h => am_tk (fun e => by subst e; exact fun h => h) h)), trivial⟩⟩⟩⟩⟩⟩)
set_option maxRecDepth 100000 in
theorem S_LinkHouse_takeArchive (l : Launch) (w : AW) : am_S l w GR a_LinkHouse_takeArchive := am_sound (rt := 0) (cal := k_LinkHouse_takeArchive) 32 y_LinkHouse_takeArchive prog_1_method_13_code 7 (Option.some Jvm.ClassFile.FieldType.boolean) [2, 2, 0] false { frames := 7, cells := 0, slots := 0, locals := 227 } B_LinkHouse_takeArchive "LinkHouse" c_LinkHouse_takeArchive m_LinkHouse_takeArchive 55 ms_LinkHouse_takeArchive (by decide +kernel) rfl rfl (am_cal (S_LinkHouse_helps l w) (am_cal (S_Part_isCause l w) (am_cal (S_LinkHouse_take l w) (fun _ h => absurd h List.not_mem_nil)))) s_LinkHouse_takeArchive h_LinkHouse_takeArchive
set_option maxRecDepth 100000 in
theorem of_LinkHouse_takeArchive {Q : Int → AMem → Prop} {x1 x2 : Int} {σ : AMem} (h : ∀ X : Nat → List Int → AMem → Prop, (∀ (x1 x2 : Int) (σ : AMem), B_LinkHouse_takeArchive_0 X Q x1 x2 σ → X 0 [1, x1, x2] σ) → (∀ (x1 x2 x3 : Int) (σ : AMem), B_LinkHouse_takeArchive_1 X Q x1 x2 x3 σ → X 1 [1, x1, x2, x3] σ) → (∀ (x1 x2 x3 x4 : Int) (σ : AMem), B_LinkHouse_takeArchive_2 X Q x1 x2 x3 x4 σ → X 2 [1, x1, x2, x3, x4] σ) → (∀ (x1 x2 x3 x4 x5 : Int) (σ : AMem), B_LinkHouse_takeArchive_3 X Q x1 x2 x3 x4 x5 σ → X 3 [1, x1, x2, x3, x4, x5] σ) → (∀ (x1 x2 x3 x4 x5 s0 : Int) (σ : AMem), B_LinkHouse_takeArchive_4 X Q x1 x2 x3 x4 x5 s0 σ → X 4 [1, x1, x2, x3, x4, x5, s0] σ) → (∀ (x1 x2 x3 x4 : Int) (σ : AMem), B_LinkHouse_takeArchive_5 X Q x1 x2 x3 x4 σ → X 5 [1, x1, x2, x3, x4] σ) → X 0 [1, x1, x2] σ) : T_LinkHouse_takeArchive [1, x1, x2] σ Q := fun X hX => h X (fun x1 x2 σ h => hX 0 [1, x1, x2] σ h) (fun x1 x2 x3 σ h => hX 1 [1, x1, x2, x3] σ h) (fun x1 x2 x3 x4 σ h => hX 2 [1, x1, x2, x3, x4] σ h) (fun x1 x2 x3 x4 x5 σ h => hX 3 [1, x1, x2, x3, x4, x5] σ h) (fun x1 x2 x3 x4 x5 s0 σ h => hX 4 [1, x1, x2, x3, x4, x5, s0] σ h) (fun x1 x2 x3 x4 σ h => hX 5 [1, x1, x2, x3, x4] σ h)
def c_LinkHouse_resolve : List aE := [(0, 1, .aload_n 0, 1, 0, 0, []), (1, 0, .getfield 25, 3, 0, 3, [2, 0, 1216]), (4, 0, .invokevirtual 312, 3, 1, 2, [2181]), (7, 0, .aload_n 0, 1, 0, 0, []), (8, 0, .iconst 0, 1, 0, 0, []), (9, 0, .putfield 259, 3, 0, 21, [0, 0, 1234]), (12, 0, .aload_n 0, 1, 0, 0, []), (13, 0, .iconst 0, 1, 0, 0, []), (14, 0, .putfield 241, 3, 0, 40, [0, 0, 2013]), (17, 0, .aload_n 0, 1, 0, 0, []), (18, 0, .iconst 0, 1, 0, 0, []), (19, 0, .putfield 315, 3, 0, 41, [0, 0, 2014]), (22, 0, .aload_n 0, 1, 0, 0, []), (23, 0, .getfield 125, 3, 0, 49, [2, 0, 2022]), (26, 0, .invokevirtual 317, 3, 3, 5, [2185]), (29, 0, .iconst 0, 1, 0, 0, []), (30, 0, .istore_n 1, 1, 0, 0, []), (31, 2, .iload_n 1, 1, 0, 0, []), (32, 0, .aload_n 0, 1, 0, 0, []), (33, 0, .getfield 318, 3, 0, 38, [0, 0, 2011]), (36, 0, .if_icmp .ge 41, 3, 0, 0, []), (39, 0, .aload_n 0, 1, 0, 0, []), (40, 0, .getfield 25, 3, 0, 3, [2, 0, 1216]), (43, 0, .aload_n 0, 1, 0, 0, []), (44, 0, .getfield 25, 3, 0, 3, [2, 0, 1216]), (47, 0, .aload_n 0, 1, 0, 0, []), (48, 0, .getfield 107, 3, 0, 33, [2, 0, 2006]), (51, 0, .iload_n 1, 1, 0, 0, []), (52, 0, .aaload, 1, 9, 0, []), (53, 0, .aload_n 0, 1, 0, 0, []), (54, 0, .getfield 113, 3, 0, 35, [2, 0, 2008]), (57, 0, .iload_n 1, 1, 0, 0, []), (58, 0, .iaload, 1, 0, 0, []), (59, 0, .invokevirtual 321, 3, 8, 2, [2193]), (62, 0, .aload_n 0, 1, 0, 0, []), (63, 0, .getfield 119, 3, 0, 37, [2, 0, 2010]), (66, 0, .iload_n 1, 1, 0, 0, []), (67, 0, .laload, 1, 0, 0, []), (68, 0, .invokevirtual 325, 3, 9, 2, [2215]), (71, 0, .iinc 1 1, 3, 0, 0, []), (74, 0, .goto (-43), 3, 0, 0, []), (77, 0, .iconst 0, 1, 0, 0, []), (78, 0, .istore_n 1, 1, 0, 0, []), (79, 3, .iload_n 1, 1, 0, 0, []), (80, 0, .aload_n 0, 1, 0, 0, []), (81, 0, .getfield 329, 3, 0, 39, [0, 0, 2012]), (84, 0, .if_icmp .ge 32, 3, 0, 0, []), (87, 0, .aload_n 0, 1, 0, 0, []), (88, 0, .getfield 25, 3, 0, 3, [2, 0, 1216]), (91, 0, .aload_n 0, 1, 0, 0, []), (92, 0, .getfield 110, 3, 0, 34, [2, 0, 2007]), (95, 0, .iload_n 1, 1, 0, 0, []), (96, 0, .aaload, 1, 9, 0, []), (97, 0, .aload_n 0, 1, 0, 0, []), (98, 0, .getfield 116, 3, 0, 36, [2, 0, 2009]), (101, 0, .iload_n 1, 1, 0, 0, []), (102, 0, .iaload, 1, 0, 0, []), (103, 0, .invokevirtual 321, 3, 8, 2, [2193]), (106, 0, .iconst 1, 1, 0, 0, []), (107, 0, .putfield 275, 3, 3, 8, [0, 1, 133]), (110, 0, .iinc 1 1, 3, 0, 0, []), (113, 0, .goto (-34), 3, 0, 0, []), (116, 0, .iconst 0, 1, 0, 0, []), (117, 0, .istore_n 1, 1, 0, 0, []), (118, 4, .iload_n 1, 1, 0, 0, []), (119, 0, .bipush 8, 2, 0, 0, []), (121, 0, .if_icmp .ge 53, 3, 0, 0, []), (124, 0, .iconst 0, 1, 0, 0, []), (125, 0, .istore_n 2, 1, 0, 0, []), (126, 5, .iload_n 2, 1, 0, 0, []), (127, 0, .bipush 8, 2, 0, 0, []), (129, 0, .if_icmp .ge 39, 3, 0, 0, []), (132, 0, .aload_n 0, 1, 0, 0, []), (133, 0, .getfield 18, 3, 0, 2, [2, 0, 1215]), (136, 0, .iload_n 1, 1, 0, 0, []), (137, 0, .aaload, 1, 7, 0, []), (138, 0, .getfield 296, 3, 6, 1, [2, 0, 1196]), (141, 0, .iload_n 2, 1, 0, 0, []), (142, 0, .aaload, 1, 5, 0, []), (143, 0, .iconst 0, 1, 0, 0, []), (144, 0, .putfield 256, 3, 7, 6, [0, 1, 1079]), (147, 0, .aload_n 0, 1, 0, 0, []), (148, 0, .getfield 18, 3, 0, 2, [2, 0, 1215]), (151, 0, .iload_n 1, 1, 0, 0, []), (152, 0, .aaload, 1, 7, 0, []), (153, 0, .getfield 296, 3, 6, 1, [2, 0, 1196]), (156, 0, .iload_n 2, 1, 0, 0, []), (157, 0, .aaload, 1, 5, 0, []), (158, 0, .iconst 0, 1, 0, 0, []), (159, 0, .putfield 332, 3, 7, 31, [0, 0, 1127]), (162, 0, .iinc 2 1, 3, 0, 0, []), (165, 0, .goto (-39), 3, 0, 0, []), (168, 0, .iinc 1 1, 3, 0, 0, []), (171, 0, .goto (-53), 3, 0, 0, []), (174, 0, .iconst 0, 1, 0, 0, []), (175, 0, .istore_n 1, 1, 0, 0, []), (176, 6, .iload_n 1, 1, 0, 0, []), (177, 0, .aload_n 0, 1, 0, 0, []), (178, 0, .getfield 195, 3, 0, 18, [0, 0, 1231]), (181, 0, .if_icmp .ge 60, 3, 0, 0, []), (184, 0, .aload_n 0, 1, 0, 0, []), (185, 0, .getfield 18, 3, 0, 2, [2, 0, 1215]), (188, 0, .iload_n 1, 1, 0, 0, []), (189, 0, .aaload, 1, 7, 0, []), (190, 0, .getfield 335, 3, 6, 4, [0, 1, 1201]), (193, 0, .ifCond .eq 20, 3, 0, 0, []), (196, 0, .aload_n 0, 1, 0, 0, []), (197, 0, .aload_n 0, 1, 0, 0, []), (198, 0, .getfield 18, 3, 0, 2, [2, 0, 1215]), (201, 0, .iload_n 1, 1, 0, 0, []), (202, 0, .aaload, 1, 7, 0, []), (203, 0, .iload_n 1, 1, 0, 0, []), (204, 0, .invokevirtual 338, 3, 32, 0, [2219]), (207, 0, .ifCond .eq 26, 3, 0, 0, []), (210, 0, .goto 25, 3, 0, 0, []), (213, 0, .aload_n 0, 1, 0, 0, []), (214, 0, .aload_n 0, 1, 0, 0, []), (215, 0, .getfield 18, 3, 0, 2, [2, 0, 1215]), (218, 0, .iload_n 1, 1, 0, 0, []), (219, 0, .aaload, 1, 7, 0, []), (220, 0, .getfield 296, 3, 6, 1, [2, 0, 1196]), (223, 0, .iconst 0, 1, 0, 0, []), (224, 0, .aaload, 1, 5, 0, []), (225, 0, .iload_n 1, 1, 0, 0, []), (226, 0, .iconst 0, 1, 0, 0, []), (227, 0, .invokevirtual 309, 3, 31, 0, [3028]), (230, 0, .ifCond .ne 5, 3, 0, 0, []), (233, 0, .iconst 0, 1, 0, 0, []), (234, 0, .ireturn, 1, 1, 0, []), (235, 7, .iinc 1 1, 3, 0, 0, []), (238, 0, .goto (-62), 3, 0, 0, []), (241, 0, .iconst 1, 1, 0, 0, []), (242, 0, .ireturn, 1, 1, 0, [])]
def m_LinkHouse_resolve : List aT := [(0, [(0, 2)], []), (31, [(0, 2), (1, 0)], []), (79, [(0, 2), (1, 0)], []), (118, [(0, 2), (1, 0)], []), (126, [(0, 2), (1, 0), (2, 0)], []), (176, [(0, 2), (1, 0)], []), (235, [(0, 2), (1, 0)], [])]
def B_LinkHouse_resolve_0 (X : Nat → List Int → AMem → Prop) (Q : Int → AMem → Prop) (σ : AMem) : Prop :=
  T_Names_clear [16] σ (fun r1 σ2 => am_let (am_upd σ2 1 21 0) (fun σ3 => am_let (am_upd σ3 1 40 0) (fun σ4 => am_let (am_upd σ4 1 41 0) (fun σ5 => T_Pool_clear [8340] σ5 (fun r6 σ7 => X 1 [1, 0] σ7)))))
def B_LinkHouse_resolve_1 (X : Nat → List Int → AMem → Prop) (Q : Int → AMem → Prop) (x1 : Int) (σ : AMem) : Prop :=
  (if x1 < (σ 1 38) then
  0 ≤ x1 ∧ x1 < 16 ∧ 0 ≤ x1 ∧ x1 < 16 ∧ T_Names_takeRow [16, (σ 8303 x1), (σ 8337 x1)] σ (fun r1 σ2 => 0 ≤ x1 ∧ x1 < 16 ∧ T_Names_give [16, r1, (σ2 8339 x1)] σ2 (fun r3 σ4 => am_r32 (x1 + 1) ∧ X 1 [1, (x1 + 1)] σ4))
  else
  X 2 [1, 0] σ)
def B_LinkHouse_resolve_2 (X : Nat → List Int → AMem → Prop) (Q : Int → AMem → Prop) (x1 : Int) (σ : AMem) : Prop :=
  (if x1 < (σ 1 39) then
  0 ≤ x1 ∧ x1 < 16 ∧ 0 ≤ x1 ∧ x1 < 16 ∧ T_Names_takeRow [16, (σ 8320 x1), (σ 8338 x1)] σ (fun r1 σ2 => (if ly_k r1 = 23 then (if ly_fin r1 8 = 0 then am_let (am_upd σ2 r1 8 1) (fun σ3 => am_r32 (x1 + 1) ∧ X 2 [1, (x1 + 1)] σ3) else False) else False))
  else
  X 3 [1, 0] σ)
def B_LinkHouse_resolve_3 (X : Nat → List Int → AMem → Prop) (Q : Int → AMem → Prop) (x1 : Int) (σ : AMem) : Prop :=
  (if x1 < 8 then
  X 4 [1, x1, 0] σ
  else
  X 5 [1, 0] σ)
def B_LinkHouse_resolve_4 (X : Nat → List Int → AMem → Prop) (Q : Int → AMem → Prop) (x1 x2 : Int) (σ : AMem) : Prop :=
  (if x2 < 8 then
  0 ≤ x1 ∧ x1 < 8 ∧ (if ly_k (σ 15 x1) = 26 then (if ly_k (am_rd GR σ (σ 15 x1) 1) = 5 then 0 ≤ x2 ∧ x2 < ly_l (am_rd GR σ (σ 15 x1) 1) ∧ (if ly_k (σ (am_rd GR σ (σ 15 x1) 1) x2) = 27 then (if ly_fin (σ (am_rd GR σ (σ 15 x1) 1) x2) 6 = 0 then am_let (am_upd σ (σ (am_rd GR σ (σ 15 x1) 1) x2) 6 0) (fun σ1 => 0 ≤ x1 ∧ x1 < 8 ∧ (if ly_k (σ1 15 x1) = 26 then (if ly_k (am_rd GR σ1 (σ1 15 x1) 1) = 5 then 0 ≤ x2 ∧ x2 < ly_l (am_rd GR σ1 (σ1 15 x1) 1) ∧ (if ly_k (σ1 (am_rd GR σ1 (σ1 15 x1) 1) x2) = 27 then (if ly_fin (σ1 (am_rd GR σ1 (σ1 15 x1) 1) x2) 31 = 0 then am_let (am_upd σ1 (σ1 (am_rd GR σ1 (σ1 15 x1) 1) x2) 31 0) (fun σ2 => am_r32 (x2 + 1) ∧ X 4 [1, x1, (x2 + 1)] σ2) else False) else False) else False) else False)) else False) else False) else False) else False)
  else
  am_r32 (x1 + 1) ∧ X 3 [1, (x1 + 1)] σ)
def B_LinkHouse_resolve_5 (X : Nat → List Int → AMem → Prop) (Q : Int → AMem → Prop) (x1 : Int) (σ : AMem) : Prop :=
  (if x1 < (σ 1 18) then
  0 ≤ x1 ∧ x1 < 8 ∧ (if ly_k (σ 15 x1) = 26 then (if (am_rd GR σ (σ 15 x1) 4) = 0 then
    0 ≤ x1 ∧ x1 < 8 ∧ (if ly_k (σ 15 x1) = 26 then (if ly_k (am_rd GR σ (σ 15 x1) 1) = 5 then (0 : Int) ≤ 0 ∧ 0 < ly_l (am_rd GR σ (σ 15 x1) 1) ∧ T_LinkHouse_take [1, (σ (am_rd GR σ (σ 15 x1) 1) 0), x1, 0] σ (fun r1 σ2 => (if r1 = 0 then
      Q 0 σ2
      else
      X 6 [1, x1] σ2)) else False) else False)
    else
    0 ≤ x1 ∧ x1 < 8 ∧ T_LinkHouse_takeArchive [1, (σ 15 x1), x1] σ (fun r3 σ4 => (if r3 = 0 then
      Q 0 σ4
      else
      X 6 [1, x1] σ4))) else False)
  else
  Q 1 σ)
def B_LinkHouse_resolve_6 (X : Nat → List Int → AMem → Prop) (Q : Int → AMem → Prop) (x1 : Int) (σ : AMem) : Prop :=
  am_r32 (x1 + 1) ∧ X 5 [1, (x1 + 1)] σ
def B_LinkHouse_resolve : (Nat → List Int → AMem → Prop) → (Int → AMem → Prop) → Nat → List Int → AMem → Prop := fun X Q j v σ => am_sel [(am_v1 (fun t σ => if t = 1 then B_LinkHouse_resolve_0 X Q σ else False)), (am_v2 (fun t x1 σ => if t = 1 then B_LinkHouse_resolve_1 X Q x1 σ else False)), (am_v2 (fun t x1 σ => if t = 1 then B_LinkHouse_resolve_2 X Q x1 σ else False)), (am_v2 (fun t x1 σ => if t = 1 then B_LinkHouse_resolve_3 X Q x1 σ else False)), (am_v3 (fun t x1 x2 σ => if t = 1 then B_LinkHouse_resolve_4 X Q x1 x2 σ else False)), (am_v2 (fun t x1 σ => if t = 1 then B_LinkHouse_resolve_5 X Q x1 σ else False)), (am_v2 (fun t x1 σ => if t = 1 then B_LinkHouse_resolve_6 X Q x1 σ else False))] j v σ
def T_LinkHouse_resolve : List Int → AMem → (Int → AMem → Prop) → Prop := am_T B_LinkHouse_resolve
abbrev y_LinkHouse_resolve : MethodName := ⟨"LinkHouse", "resolve", "()Z"⟩
def a_LinkHouse_resolve : AC := (33, (y_LinkHouse_resolve, prog_1_method_14_code, 3, (Option.some Jvm.ClassFile.FieldType.boolean)), [2], 0, false, { frames := 8, cells := 0, slots := 0, locals := 261 }, T_LinkHouse_resolve)
set_option maxRecDepth 100000 in
theorem ms_LinkHouse_resolve : am_MSp a_LinkHouse_resolve := am_ms_v 2180 1 2179 100001 0 rfl (by decide +kernel)
abbrev k_LinkHouse_resolve : List AC := [a_Names_clear, a_Pool_clear, a_Names_takeRow, a_Names_give, a_LinkHouse_takeArchive, a_LinkHouse_take]
set_option maxRecDepth 100000 in
theorem s_LinkHouse_resolve : (am_chkR { frames := 8, cells := 0, slots := 0, locals := 261 } k_LinkHouse_resolve && am_chkN c_LinkHouse_resolve { frames := 8, cells := 0, slots := 0, locals := 261 } && c_LinkHouse_resolve.all (am_chk "LinkHouse" prog_1_method_14_code 3 (Option.some Jvm.ClassFile.FieldType.boolean) k_LinkHouse_resolve) && c_LinkHouse_resolve.all (am_chkL m_LinkHouse_resolve) && decide (m_LinkHouse_resolve[0]? = some (0, am_argp 0 [2], [])) && decide (am_argn [2] ≤ 3)) = true := by decide +kernel
set_option maxHeartbeats 150000 in
set_option maxRecDepth 100000 in
theorem h_LinkHouse_resolve : ∀ X Q j v σ, B_LinkHouse_resolve X Q j v σ → am_at GR k_LinkHouse_resolve c_LinkHouse_resolve m_LinkHouse_resolve X Q 138 j v σ := fun X Q => am_sel_all (P := fun j v σ => am_at GR k_LinkHouse_resolve c_LinkHouse_resolve m_LinkHouse_resolve X Q 138 j v σ) (⟨(am_v1_of (fun t σ h => am_tk (fun e => by subst e; exact fun h => h) h)), ⟨(am_v2_of (fun t x1 σ h => am_tk (fun e => by subst e; exact fun h => h) h)), ⟨(am_v2_of (fun t x1 σ h => am_tk (fun e => by subst e; exact fun h => h) h)), ⟨(am_v2_of (fun t x1 σ h => am_tk (fun e => by subst e; exact fun h => h) h)), ⟨(am_v3_of (fun t x1 x2 σ h => am_tk (fun e => by subst e; exact fun h => h) h)), ⟨(am_v2_of (fun t x1 σ h => am_tk (fun e => by subst e; exact fun h => h) h)), ⟨(am_v2_of (fun t x1 σ h => am_tk (fun e => by subst e; exact fun h => h) h)), trivial⟩⟩⟩⟩⟩⟩⟩)
set_option maxRecDepth 100000 in
theorem S_LinkHouse_resolve (l : Launch) (w : AW) : am_S l w GR a_LinkHouse_resolve := am_sound (rt := 0) (cal := k_LinkHouse_resolve) 33 y_LinkHouse_resolve prog_1_method_14_code 3 (Option.some Jvm.ClassFile.FieldType.boolean) [2] false { frames := 8, cells := 0, slots := 0, locals := 261 } B_LinkHouse_resolve "LinkHouse" c_LinkHouse_resolve m_LinkHouse_resolve 138 ms_LinkHouse_resolve (by decide +kernel) rfl rfl (am_cal (S_Names_clear l w) (am_cal (S_Pool_clear l w) (am_cal (S_Names_takeRow l w) (am_cal (S_Names_give l w) (am_cal (S_LinkHouse_takeArchive l w) (am_cal (S_LinkHouse_take l w) (fun _ h => absurd h List.not_mem_nil))))))) s_LinkHouse_resolve h_LinkHouse_resolve
set_option maxRecDepth 100000 in
theorem of_LinkHouse_resolve {Q : Int → AMem → Prop} {σ : AMem} (h : ∀ X : Nat → List Int → AMem → Prop, (∀ (σ : AMem), B_LinkHouse_resolve_0 X Q σ → X 0 [1] σ) → (∀ (x1 : Int) (σ : AMem), B_LinkHouse_resolve_1 X Q x1 σ → X 1 [1, x1] σ) → (∀ (x1 : Int) (σ : AMem), B_LinkHouse_resolve_2 X Q x1 σ → X 2 [1, x1] σ) → (∀ (x1 : Int) (σ : AMem), B_LinkHouse_resolve_3 X Q x1 σ → X 3 [1, x1] σ) → (∀ (x1 x2 : Int) (σ : AMem), B_LinkHouse_resolve_4 X Q x1 x2 σ → X 4 [1, x1, x2] σ) → (∀ (x1 : Int) (σ : AMem), B_LinkHouse_resolve_5 X Q x1 σ → X 5 [1, x1] σ) → (∀ (x1 : Int) (σ : AMem), B_LinkHouse_resolve_6 X Q x1 σ → X 6 [1, x1] σ) → X 0 [1] σ) : T_LinkHouse_resolve [1] σ Q := fun X hX => h X (fun σ h => hX 0 [1] σ h) (fun x1 σ h => hX 1 [1, x1] σ h) (fun x1 σ h => hX 2 [1, x1] σ h) (fun x1 σ h => hX 3 [1, x1] σ h) (fun x1 x2 σ h => hX 4 [1, x1, x2] σ h) (fun x1 σ h => hX 5 [1, x1] σ h) (fun x1 σ h => hX 6 [1, x1] σ h)
def c_LinkHouse_defineOwn : List aE := [(0, 1, .iconst 1, 1, 0, 0, []), (1, 0, .istore_n 1, 1, 0, 0, []), (2, 2, .iload_n 1, 1, 0, 0, []), (3, 0, .aload_n 0, 1, 0, 0, []), (4, 0, .getfield 92, 3, 0, 29, [2, 0, 2002]), (7, 0, .arraylength, 1, 9, 0, []), (8, 0, .if_icmp .ge 43, 3, 0, 0, []), (11, 0, .aload_n 0, 1, 0, 0, []), (12, 0, .getfield 92, 3, 0, 29, [2, 0, 2002]), (15, 0, .iload_n 1, 1, 0, 0, []), (16, 0, .aaload, 1, 9, 0, []), (17, 0, .astore_n 2, 1, 0, 0, []), (18, 0, .aload_n 0, 1, 0, 0, []), (19, 0, .getfield 25, 3, 0, 3, [2, 0, 1216]), (22, 0, .aload_n 2, 1, 0, 0, []), (23, 0, .aload_n 2, 1, 0, 0, []), (24, 0, .arraylength, 1, 2, 0, []), (25, 0, .invokevirtual 342, 3, 6, 2, [3094]), (28, 0, .astore_n 3, 1, 0, 0, []), (29, 0, .aload_n 3, 1, 0, 0, []), (30, 0, .ifnull 15, 3, 0, 0, []), (33, 0, .aload_n 3, 1, 0, 0, []), (34, 0, .getfield 292, 3, 3, 2, [0, 0, 120]), (37, 0, .ifCond .ne 8, 3, 0, 0, []), (40, 0, .aload_n 3, 1, 0, 0, []), (41, 0, .iload_n 1, 1, 0, 0, []), (42, 0, .putfield 345, 3, 3, 4, [0, 0, 126]), (45, 3, .iinc 1 1, 3, 0, 0, []), (48, 0, .goto (-46), 3, 0, 0, []), (51, 0, .return_, 1, 0, 0, [])]
def m_LinkHouse_defineOwn : List aT := [(0, [(0, 2)], []), (2, [(0, 2), (1, 0)], []), (45, [(0, 2), (1, 0)], [])]
def B_LinkHouse_defineOwn_0 (X : Nat → List Int → AMem → Prop) (Q : Int → AMem → Prop) (σ : AMem) : Prop :=
  X 1 [1, 1] σ
def B_LinkHouse_defineOwn_1 (X : Nat → List Int → AMem → Prop) (Q : Int → AMem → Prop) (x1 : Int) (σ : AMem) : Prop :=
  (if x1 < 5 then
  0 ≤ x1 ∧ x1 < 5 ∧ (if ly_k (σ 8294 x1) = 2 then T_Names_findRow [16, (σ 8294 x1), (ly_l (σ 8294 x1))] σ (fun r1 σ2 => (if r1 = 0 then
    X 2 [1, x1] σ2
    else
    (if ly_k r1 = 23 then (if (am_rd GR σ2 r1 2) = 0 then
      (if ly_k r1 = 23 then (if ly_fin r1 4 = 0 then am_let (am_upd σ2 r1 4 x1) (fun σ3 => X 2 [1, x1] σ3) else False) else False)
      else
      X 2 [1, x1] σ2) else False))) else False)
  else
  Q 0 σ)
def B_LinkHouse_defineOwn_2 (X : Nat → List Int → AMem → Prop) (Q : Int → AMem → Prop) (x1 : Int) (σ : AMem) : Prop :=
  am_r32 (x1 + 1) ∧ X 1 [1, (x1 + 1)] σ
def B_LinkHouse_defineOwn : (Nat → List Int → AMem → Prop) → (Int → AMem → Prop) → Nat → List Int → AMem → Prop := fun X Q j v σ => am_sel [(am_v1 (fun t σ => if t = 1 then B_LinkHouse_defineOwn_0 X Q σ else False)), (am_v2 (fun t x1 σ => if t = 1 then B_LinkHouse_defineOwn_1 X Q x1 σ else False)), (am_v2 (fun t x1 σ => if t = 1 then B_LinkHouse_defineOwn_2 X Q x1 σ else False))] j v σ
def T_LinkHouse_defineOwn : List Int → AMem → (Int → AMem → Prop) → Prop := am_T B_LinkHouse_defineOwn
abbrev y_LinkHouse_defineOwn : MethodName := ⟨"LinkHouse", "defineOwn", "()V"⟩
def a_LinkHouse_defineOwn : AC := (34, (y_LinkHouse_defineOwn, prog_1_method_15_code, 4, (Option.none : Option Jvm.ClassFile.FieldType)), [2], 3, false, { frames := 2, cells := 0, slots := 0, locals := 64 }, T_LinkHouse_defineOwn)
set_option maxRecDepth 100000 in
theorem ms_LinkHouse_defineOwn : am_MSp a_LinkHouse_defineOwn := am_ms_v 3093 1 3092 100010 0 rfl (by decide +kernel)
abbrev k_LinkHouse_defineOwn : List AC := [a_Names_findRow]
set_option maxRecDepth 100000 in
theorem s_LinkHouse_defineOwn : (am_chkR { frames := 2, cells := 0, slots := 0, locals := 64 } k_LinkHouse_defineOwn && am_chkN c_LinkHouse_defineOwn { frames := 2, cells := 0, slots := 0, locals := 64 } && c_LinkHouse_defineOwn.all (am_chk "LinkHouse" prog_1_method_15_code 4 (Option.none : Option Jvm.ClassFile.FieldType) k_LinkHouse_defineOwn) && c_LinkHouse_defineOwn.all (am_chkL m_LinkHouse_defineOwn) && decide (m_LinkHouse_defineOwn[0]? = some (0, am_argp 0 [2], [])) && decide (am_argn [2] ≤ 4)) = true := by decide +kernel
set_option maxHeartbeats 150000 in
set_option maxRecDepth 100000 in
theorem h_LinkHouse_defineOwn : ∀ X Q j v σ, B_LinkHouse_defineOwn X Q j v σ → am_at GR k_LinkHouse_defineOwn c_LinkHouse_defineOwn m_LinkHouse_defineOwn X Q 35 j v σ := fun X Q => am_sel_all (P := fun j v σ => am_at GR k_LinkHouse_defineOwn c_LinkHouse_defineOwn m_LinkHouse_defineOwn X Q 35 j v σ) (⟨(am_v1_of (fun t σ h => am_tk (fun e => by subst e; exact fun h => h) h)), ⟨(am_v2_of (fun t x1 σ h => am_tk (fun e => by subst e; exact fun h => h) h)), ⟨(am_v2_of (fun t x1 σ h => am_tk (fun e => by subst e; exact fun h => h) h)), trivial⟩⟩⟩)
set_option maxRecDepth 100000 in
theorem S_LinkHouse_defineOwn (l : Launch) (w : AW) : am_S l w GR a_LinkHouse_defineOwn := am_sound (rt := 3) (cal := k_LinkHouse_defineOwn) 34 y_LinkHouse_defineOwn prog_1_method_15_code 4 (Option.none : Option Jvm.ClassFile.FieldType) [2] false { frames := 2, cells := 0, slots := 0, locals := 64 } B_LinkHouse_defineOwn "LinkHouse" c_LinkHouse_defineOwn m_LinkHouse_defineOwn 35 ms_LinkHouse_defineOwn (by decide +kernel) rfl rfl (am_cal (S_Names_findRow l w) (fun _ h => absurd h List.not_mem_nil)) s_LinkHouse_defineOwn h_LinkHouse_defineOwn
set_option maxRecDepth 100000 in
theorem of_LinkHouse_defineOwn {Q : Int → AMem → Prop} {σ : AMem} (h : ∀ X : Nat → List Int → AMem → Prop, (∀ (σ : AMem), B_LinkHouse_defineOwn_0 X Q σ → X 0 [1] σ) → (∀ (x1 : Int) (σ : AMem), B_LinkHouse_defineOwn_1 X Q x1 σ → X 1 [1, x1] σ) → (∀ (x1 : Int) (σ : AMem), B_LinkHouse_defineOwn_2 X Q x1 σ → X 2 [1, x1] σ) → X 0 [1] σ) : T_LinkHouse_defineOwn [1] σ Q := fun X hX => h X (fun σ h => hX 0 [1] σ h) (fun x1 σ h => hX 1 [1, x1] σ h) (fun x1 σ h => hX 2 [1, x1] σ h)
def c_Name_isDefined : List aE := [(0, 1, .aload_n 0, 1, 0, 0, []), (1, 0, .getfield 25, 3, 3, 2, [0, 0, 118]), (4, 0, .ifCond .gt 10, 3, 0, 0, []), (7, 0, .aload_n 0, 1, 0, 0, []), (8, 0, .getfield 28, 3, 3, 4, [0, 0, 124]), (11, 0, .ifCond .le 7, 3, 0, 0, []), (14, 0, .iconst 1, 1, 0, 0, []), (15, 0, .goto 4, 3, 0, 0, []), (18, 0, .iconst 0, 1, 0, 0, []), (19, 0, .ireturn, 1, 1, 0, [])]
def m_Name_isDefined : List aT := [(0, [(0, 2)], [])]
def B_Name_isDefined_0 (X : Nat → List Int → AMem → Prop) (Q : Int → AMem → Prop) (x0 : Int) (σ : AMem) : Prop :=
  (if ly_k x0 = 23 then (if 0 < (am_rd GR σ x0 2) then
  Q 1 σ
  else
  (if ly_k x0 = 23 then (if 0 < (am_rd GR σ x0 4) then
    Q 1 σ
    else
    Q 0 σ) else False)) else False)
def B_Name_isDefined : (Nat → List Int → AMem → Prop) → (Int → AMem → Prop) → Nat → List Int → AMem → Prop := fun X Q j v σ => am_sel [(am_v1 (fun x0 σ => B_Name_isDefined_0 X Q x0 σ))] j v σ
def T_Name_isDefined : List Int → AMem → (Int → AMem → Prop) → Prop := am_T B_Name_isDefined
abbrev y_Name_isDefined : MethodName := ⟨"LinkHouse$Name", "isDefined", "()Z"⟩
def a_Name_isDefined : AC := (35, (y_Name_isDefined, prog_4_method_4_code, 1, (Option.some Jvm.ClassFile.FieldType.boolean)), [2], 0, false, { frames := 0, cells := 0, slots := 0, locals := 0 }, T_Name_isDefined)
set_option maxRecDepth 100000 in
theorem ms_Name_isDefined : am_MSp a_Name_isDefined := am_ms_v 3102 4 3100 3101 3 rfl (by decide +kernel)
abbrev k_Name_isDefined : List AC := []
set_option maxRecDepth 100000 in
theorem s_Name_isDefined : (am_chkR { frames := 0, cells := 0, slots := 0, locals := 0 } k_Name_isDefined && am_chkN c_Name_isDefined { frames := 0, cells := 0, slots := 0, locals := 0 } && c_Name_isDefined.all (am_chk "LinkHouse$Name" prog_4_method_4_code 1 (Option.some Jvm.ClassFile.FieldType.boolean) k_Name_isDefined) && c_Name_isDefined.all (am_chkL m_Name_isDefined) && decide (m_Name_isDefined[0]? = some (0, am_argp 0 [2], [])) && decide (am_argn [2] ≤ 1)) = true := by decide +kernel
set_option maxHeartbeats 150000 in
set_option maxRecDepth 100000 in
theorem h_Name_isDefined : ∀ X Q j v σ, B_Name_isDefined X Q j v σ → am_at GR k_Name_isDefined c_Name_isDefined m_Name_isDefined X Q 20 j v σ := fun X Q => am_sel_all (P := fun j v σ => am_at GR k_Name_isDefined c_Name_isDefined m_Name_isDefined X Q 20 j v σ) (⟨(am_v1_of (fun x0 σ h => h)), trivial⟩)
set_option maxRecDepth 100000 in
theorem S_Name_isDefined (l : Launch) (w : AW) : am_S l w GR a_Name_isDefined := am_sound (rt := 0) (cal := k_Name_isDefined) 35 y_Name_isDefined prog_4_method_4_code 1 (Option.some Jvm.ClassFile.FieldType.boolean) [2] false { frames := 0, cells := 0, slots := 0, locals := 0 } B_Name_isDefined "LinkHouse$Name" c_Name_isDefined m_Name_isDefined 20 ms_Name_isDefined (by decide +kernel) rfl rfl (fun _ h => absurd h List.not_mem_nil) s_Name_isDefined h_Name_isDefined
set_option maxRecDepth 100000 in
theorem of_Name_isDefined {Q : Int → AMem → Prop} {x0 : Int} {σ : AMem} (h : ∀ X : Nat → List Int → AMem → Prop, (∀ (x0 : Int) (σ : AMem), B_Name_isDefined_0 X Q x0 σ → X 0 [x0] σ) → X 0 [x0] σ) : T_Name_isDefined [x0] σ Q := fun X hX => h X (fun x0 σ h => hX 0 [x0] σ h)
set_option maxRecDepth 100000 in
theorem iff_Name_isDefined {Q : Int → AMem → Prop} {X : Nat → List Int → AMem → Prop} {x0 : Int} {σ : AMem} : T_Name_isDefined [x0] σ Q ↔ B_Name_isDefined_0 X Q x0 σ := ⟨fun h => h (fun j v σ => B_Name_isDefined X Q j v σ) (fun _ _ _ q => q), fun h _ hX => hX 0 _ _ h⟩
