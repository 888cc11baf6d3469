/-! methods that throw: printed by gen/x.py -/
theorem am_calX {l : Launch} {w : AW} {a : AX} {r : List AX} (h : am_SX l w GR a) (hr : ∀ b ∈ r, am_SX l w GR b) : ∀ b ∈ a :: r, am_SX l w GR b := fun b hb => by
  rcases List.mem_cons.mp hb with rfl | hb
  · exact h
  · exact hr b hb
def BX_LinkHouse_feed_0 (X : Nat → List Int → AMem → Prop) (E : Nat → AMem → Prop) (x1 x2 : Int) (σ : AMem) : Prop :=
  T_LinkHouse_in [x1, 1, 8] σ (fun r1 σ2 => (T_LinkHouse_need [r1] σ2 (fun r3 σ4 => am_r32 ((σ4 1 19) + x1) ∧ (if 8192 < ((σ4 1 19) + x1) then
  X 1 [1, x1, x2, 0] σ4
  else
  X 1 [1, x1, x2, 1] σ4)) ∨ TX_LinkHouse_need [r1] σ2 E))
def BX_LinkHouse_feed_1 (X : Nat → List Int → AMem → Prop) (E : Nat → AMem → Prop) (x1 x2 s0 : Int) (σ : AMem) : Prop :=
  (T_LinkHouse_ready [s0] σ (fun r1 σ2 => X 2 [1, x1, x2, 0] σ2) ∨ TX_LinkHouse_ready [s0] σ E)
def BX_LinkHouse_feed_2 (X : Nat → List Int → AMem → Prop) (E : Nat → AMem → Prop) (x1 x2 x4 : Int) (σ : AMem) : Prop :=
  (if x4 < x1 then
  am_r32 ((σ 1 19) + 1) ∧ am_let (am_upd σ 1 19 ((σ 1 19) + 1)) (fun σ1 => am_r32 (8 * x4) ∧ 0 ≤ (σ 1 19) ∧ (σ 1 19) < 8192 ∧ am_let (am_upd σ1 8276 (σ 1 19) (w8 (w8 (w32 (l_shr x2 (8 * x4)))))) (fun σ2 => am_r32 (x4 + 1) ∧ X 2 [1, x1, x2, (x4 + 1)] σ2))
  else
  False)
def BX_LinkHouse_feed : (Nat → List Int → AMem → Prop) → (Nat → AMem → Prop) → Nat → List Int → AMem → Prop := fun X E j v σ => am_sel [(am_v3 (fun t x1 x2 σ => if t = 1 then BX_LinkHouse_feed_0 X E x1 x2 σ else False)), (am_v4 (fun t x1 x2 s0 σ => if t = 1 then BX_LinkHouse_feed_1 X E x1 x2 s0 σ else False)), (am_v4 (fun t x1 x2 x4 σ => if t = 1 then BX_LinkHouse_feed_2 X E x1 x2 x4 σ else False))] j v σ
def TX_LinkHouse_feed : List Int → AMem → (Nat → AMem → Prop) → Prop := am_TX BX_LinkHouse_feed
def ax_LinkHouse_feed : AX := (139, (y_LinkHouse_feed, prog_1_method_6_code, 5, (Option.some Jvm.ClassFile.FieldType.int)), [2, 0, 1], false, { frames := 9, cells := 1, slots := 6, locals := 248 }, TX_LinkHouse_feed)
abbrev kx_LinkHouse_feed : List AX := [ax_LinkHouse_need, ax_LinkHouse_ready]
set_option maxRecDepth 100000 in
theorem sx_LinkHouse_feed : (am_chkR { frames := 9, cells := 1, slots := 6, locals := 248 } k_LinkHouse_feed && am_chkRX { frames := 9, cells := 1, slots := 6, locals := 248 } kx_LinkHouse_feed && am_chkN c_LinkHouse_feed { frames := 9, cells := 1, slots := 6, locals := 248 } && c_LinkHouse_feed.all (am_chk "LinkHouse" prog_1_method_6_code 5 (Option.some Jvm.ClassFile.FieldType.int) k_LinkHouse_feed) && c_LinkHouse_feed.all (am_chkX "LinkHouse" kx_LinkHouse_feed) && c_LinkHouse_feed.all (am_chkL m_LinkHouse_feed) && decide (m_LinkHouse_feed[0]? = some (0, am_argp 0 [2, 0, 1], [])) && decide (am_argn [2, 0, 1] ≤ 5)) = true := by decide +kernel
set_option maxHeartbeats 150000 in
set_option maxRecDepth 100000 in
theorem hx_LinkHouse_feed : ∀ X E j v σ, BX_LinkHouse_feed X E j v σ → am_atX GR k_LinkHouse_feed kx_LinkHouse_feed c_LinkHouse_feed m_LinkHouse_feed X E 48 j v σ := fun X E => am_sel_all (P := fun j v σ => am_atX GR k_LinkHouse_feed kx_LinkHouse_feed c_LinkHouse_feed m_LinkHouse_feed X E 48 j v σ) (⟨(am_v3_of (fun t x1 x2 σ h => am_tk (fun e => by subst e; exact fun h => h) h)), ⟨(am_v4_of (fun t x1 x2 s0 σ h => am_tk (fun e => by subst e; exact fun h => h) h)), ⟨(am_v4_of (fun t x1 x2 x4 σ h => am_tk (fun e => by subst e; exact fun h => h) h)), trivial⟩⟩⟩)
set_option maxRecDepth 100000 in
theorem SX_LinkHouse_feed (l : Launch) (w : AW) (hfl : l.flags = pinnedFlags ++ [noTraceFlag]) : am_SX l w GR ax_LinkHouse_feed := am_soundX (cal := k_LinkHouse_feed) (calX := kx_LinkHouse_feed) 139 y_LinkHouse_feed prog_1_method_6_code 5 (Option.some Jvm.ClassFile.FieldType.int) [2, 0, 1] false { frames := 9, cells := 1, slots := 6, locals := 248 } BX_LinkHouse_feed "LinkHouse" c_LinkHouse_feed m_LinkHouse_feed 48 ms_LinkHouse_feed (by decide +kernel) rfl (am_cal (S_LinkHouse_in l w) (am_cal (S_LinkHouse_need l w) (am_cal (S_LinkHouse_ready l w) (fun _ h => absurd h List.not_mem_nil)))) (am_calX (SX_LinkHouse_need l w hfl) (am_calX (SX_LinkHouse_ready l w hfl) (fun _ h => absurd h List.not_mem_nil))) sx_LinkHouse_feed hx_LinkHouse_feed
set_option maxRecDepth 100000 in
theorem ofX_LinkHouse_feed {E : Nat → AMem → Prop} {x1 x2 : Int} {σ : AMem} (h : ∀ X : Nat → List Int → AMem → Prop, (∀ (x1 x2 : Int) (σ : AMem), BX_LinkHouse_feed_0 X E x1 x2 σ → X 0 [1, x1, x2] σ) → (∀ (x1 x2 s0 : Int) (σ : AMem), BX_LinkHouse_feed_1 X E x1 x2 s0 σ → X 1 [1, x1, x2, s0] σ) → (∀ (x1 x2 x4 : Int) (σ : AMem), BX_LinkHouse_feed_2 X E x1 x2 x4 σ → X 2 [1, x1, x2, x4] σ) → X 0 [1, x1, x2] σ) : TX_LinkHouse_feed [1, x1, x2] σ E := fun X hX => h X (fun x1 x2 σ h => hX 0 [1, x1, x2] σ h) (fun x1 x2 s0 σ h => hX 1 [1, x1, x2, s0] σ h) (fun x1 x2 x4 σ h => hX 2 [1, x1, x2, x4] σ h)
def BX_LinkHouse_add_0 (X : Nat → List Int → AMem → Prop) (E : Nat → AMem → Prop) (σ : AMem) : Prop :=
  (if (σ 1 18) < 8 then
  X 1 [1, 1] σ
  else
  X 1 [1, 0] σ)
def BX_LinkHouse_add_1 (X : Nat → List Int → AMem → Prop) (E : Nat → AMem → Prop) (s0 : Int) (σ : AMem) : Prop :=
  (T_LinkHouse_ready [s0] σ (fun r1 σ2 => 0 ≤ (σ2 1 18) ∧ (σ2 1 18) < 8 ∧ (if ly_k (σ2 15 (σ2 1 18)) = 26 then T_Container_read [(σ2 15 (σ2 1 18)), 8276, (σ2 1 19)] σ2 (fun r3 σ4 => am_let (am_upd σ4 1 19 0) (fun σ5 => (if r3 = 0 then
  am_r32 ((σ5 1 18) + 1) ∧ am_let (am_upd σ5 1 18 ((σ5 1 18) + 1)) (fun σ6 => False)
  else
  False))) else False)) ∨ TX_LinkHouse_ready [s0] σ E)
def BX_LinkHouse_add : (Nat → List Int → AMem → Prop) → (Nat → AMem → Prop) → Nat → List Int → AMem → Prop := fun X E j v σ => am_sel [(am_v1 (fun t σ => if t = 1 then BX_LinkHouse_add_0 X E σ else False)), (am_v2 (fun t s0 σ => if t = 1 then BX_LinkHouse_add_1 X E s0 σ else False))] j v σ
def TX_LinkHouse_add : List Int → AMem → (Nat → AMem → Prop) → Prop := am_TX BX_LinkHouse_add
def ax_LinkHouse_add : AX := (155, (y_LinkHouse_add, prog_1_method_7_code, 2, (Option.some Jvm.ClassFile.FieldType.int)), [2], false, { frames := 9, cells := 1, slots := 6, locals := 248 }, TX_LinkHouse_add)
abbrev kx_LinkHouse_add : List AX := [ax_LinkHouse_ready]
set_option maxRecDepth 100000 in
theorem sx_LinkHouse_add : (am_chkR { frames := 9, cells := 1, slots := 6, locals := 248 } k_LinkHouse_add && am_chkRX { frames := 9, cells := 1, slots := 6, locals := 248 } kx_LinkHouse_add && am_chkN c_LinkHouse_add { frames := 9, cells := 1, slots := 6, locals := 248 } && c_LinkHouse_add.all (am_chk "LinkHouse" prog_1_method_7_code 2 (Option.some Jvm.ClassFile.FieldType.int) k_LinkHouse_add) && c_LinkHouse_add.all (am_chkX "LinkHouse" kx_LinkHouse_add) && c_LinkHouse_add.all (am_chkL m_LinkHouse_add) && decide (m_LinkHouse_add[0]? = some (0, am_argp 0 [2], [])) && decide (am_argn [2] ≤ 2)) = true := by decide +kernel
set_option maxHeartbeats 150000 in
set_option maxRecDepth 100000 in
theorem hx_LinkHouse_add : ∀ X E j v σ, BX_LinkHouse_add X E j v σ → am_atX GR k_LinkHouse_add kx_LinkHouse_add c_LinkHouse_add m_LinkHouse_add X E 37 j v σ := fun X E => am_sel_all (P := fun j v σ => am_atX GR k_LinkHouse_add kx_LinkHouse_add c_LinkHouse_add m_LinkHouse_add X E 37 j v σ) (⟨(am_v1_of (fun t σ h => am_tk (fun e => by subst e; exact fun h => h) h)), ⟨(am_v2_of (fun t s0 σ h => am_tk (fun e => by subst e; exact fun h => h) h)), trivial⟩⟩)
set_option maxRecDepth 100000 in
theorem SX_LinkHouse_add (l : Launch) (w : AW) (hfl : l.flags = pinnedFlags ++ [noTraceFlag]) : am_SX l w GR ax_LinkHouse_add := am_soundX (cal := k_LinkHouse_add) (calX := kx_LinkHouse_add) 155 y_LinkHouse_add prog_1_method_7_code 2 (Option.some Jvm.ClassFile.FieldType.int) [2] false { frames := 9, cells := 1, slots := 6, locals := 248 } BX_LinkHouse_add "LinkHouse" c_LinkHouse_add m_LinkHouse_add 37 ms_LinkHouse_add (by decide +kernel) rfl (am_cal (S_LinkHouse_ready l w) (am_cal (S_Container_read l w) (fun _ h => absurd h List.not_mem_nil))) (am_calX (SX_LinkHouse_ready l w hfl) (fun _ h => absurd h List.not_mem_nil)) sx_LinkHouse_add hx_LinkHouse_add
set_option maxRecDepth 100000 in
theorem ofX_LinkHouse_add {E : Nat → AMem → Prop} {σ : AMem} (h : ∀ X : Nat → List Int → AMem → Prop, (∀ (σ : AMem), BX_LinkHouse_add_0 X E σ → X 0 [1] σ) → (∀ (s0 : Int) (σ : AMem), BX_LinkHouse_add_1 X E s0 σ → X 1 [1, s0] σ) → X 0 [1] σ) : TX_LinkHouse_add [1] σ E := fun X hX => h X (fun σ h => hX 0 [1] σ h) (fun s0 σ h => hX 1 [1, s0] σ h)
def BX_LinkHouse_drop_0 (X : Nat → List Int → AMem → Prop) (E : Nat → AMem → Prop) (σ : AMem) : Prop :=
  (if 0 < (σ 1 18) then
  X 1 [1, 1] σ
  else
  X 1 [1, 0] σ)
def BX_LinkHouse_drop_1 (X : Nat → List Int → AMem → Prop) (E : Nat → AMem → Prop) (s0 : Int) (σ : AMem) : Prop :=
  (T_LinkHouse_ready [s0] σ (fun r1 σ2 => am_r32 ((σ2 1 18) - 1) ∧ am_let (am_upd σ2 1 18 ((σ2 1 18) - 1)) (fun σ3 => False)) ∨ TX_LinkHouse_ready [s0] σ E)
def BX_LinkHouse_drop : (Nat → List Int → AMem → Prop) → (Nat → AMem → Prop) → Nat → List Int → AMem → Prop := fun X E j v σ => am_sel [(am_v1 (fun t σ => if t = 1 then BX_LinkHouse_drop_0 X E σ else False)), (am_v2 (fun t s0 σ => if t = 1 then BX_LinkHouse_drop_1 X E s0 σ else False))] j v σ
def TX_LinkHouse_drop : List Int → AMem → (Nat → AMem → Prop) → Prop := am_TX BX_LinkHouse_drop
def ax_LinkHouse_drop : AX := (156, (y_LinkHouse_drop, prog_1_method_8_code, 1, (Option.some Jvm.ClassFile.FieldType.int)), [2], false, { frames := 9, cells := 1, slots := 6, locals := 248 }, TX_LinkHouse_drop)
abbrev kx_LinkHouse_drop : List AX := [ax_LinkHouse_ready]
set_option maxRecDepth 100000 in
theorem sx_LinkHouse_drop : (am_chkR { frames := 9, cells := 1, slots := 6, locals := 248 } k_LinkHouse_drop && am_chkRX { frames := 9, cells := 1, slots := 6, locals := 248 } kx_LinkHouse_drop && am_chkN c_LinkHouse_drop { frames := 9, cells := 1, slots := 6, locals := 248 } && c_LinkHouse_drop.all (am_chk "LinkHouse" prog_1_method_8_code 1 (Option.some Jvm.ClassFile.FieldType.int) k_LinkHouse_drop) && c_LinkHouse_drop.all (am_chkX "LinkHouse" kx_LinkHouse_drop) && c_LinkHouse_drop.all (am_chkL m_LinkHouse_drop) && decide (m_LinkHouse_drop[0]? = some (0, am_argp 0 [2], [])) && decide (am_argn [2] ≤ 1)) = true := by decide +kernel
set_option maxHeartbeats 150000 in
set_option maxRecDepth 100000 in
theorem hx_LinkHouse_drop : ∀ X E j v σ, BX_LinkHouse_drop X E j v σ → am_atX GR k_LinkHouse_drop kx_LinkHouse_drop c_LinkHouse_drop m_LinkHouse_drop X E 20 j v σ := fun X E => am_sel_all (P := fun j v σ => am_atX GR k_LinkHouse_drop kx_LinkHouse_drop c_LinkHouse_drop m_LinkHouse_drop X E 20 j v σ) (⟨(am_v1_of (fun t σ h => am_tk (fun e => by subst e; exact fun h => h) h)), ⟨(am_v2_of (fun t s0 σ h => am_tk (fun e => by subst e; exact fun h => h) h)), trivial⟩⟩)
set_option maxRecDepth 100000 in
theorem SX_LinkHouse_drop (l : Launch) (w : AW) (hfl : l.flags = pinnedFlags ++ [noTraceFlag]) : am_SX l w GR ax_LinkHouse_drop := am_soundX (cal := k_LinkHouse_drop) (calX := kx_LinkHouse_drop) 156 y_LinkHouse_drop prog_1_method_8_code 1 (Option.some Jvm.ClassFile.FieldType.int) [2] false { frames := 9, cells := 1, slots := 6, locals := 248 } BX_LinkHouse_drop "LinkHouse" c_LinkHouse_drop m_LinkHouse_drop 20 ms_LinkHouse_drop (by decide +kernel) rfl (am_cal (S_LinkHouse_ready l w) (fun _ h => absurd h List.not_mem_nil)) (am_calX (SX_LinkHouse_ready l w hfl) (fun _ h => absurd h List.not_mem_nil)) sx_LinkHouse_drop hx_LinkHouse_drop
set_option maxRecDepth 100000 in
theorem ofX_LinkHouse_drop {E : Nat → AMem → Prop} {σ : AMem} (h : ∀ X : Nat → List Int → AMem → Prop, (∀ (σ : AMem), BX_LinkHouse_drop_0 X E σ → X 0 [1] σ) → (∀ (s0 : Int) (σ : AMem), BX_LinkHouse_drop_1 X E s0 σ → X 1 [1, s0] σ) → X 0 [1] σ) : TX_LinkHouse_drop [1] σ E := fun X hX => h X (fun σ h => hX 0 [1] σ h) (fun s0 σ h => hX 1 [1, s0] σ h)
def BX_LinkHouse_asName_0 (X : Nat → List Int → AMem → Prop) (E : Nat → AMem → Prop) (σ : AMem) : Prop :=
  am_let (am_upd σ 1 19 0) (fun σ1 => (if (σ 1 19) < 1 then
  X 1 [1, (σ 1 19)] σ1
  else
  (if 20 < (σ 1 19) then
    X 1 [1, (σ 1 19)] σ1
    else
    X 2 [1, (σ 1 19), 1] σ1)))
def BX_LinkHouse_asName_1 (X : Nat → List Int → AMem → Prop) (E : Nat → AMem → Prop) (x1 : Int) (σ : AMem) : Prop :=
  X 2 [1, x1, 0] σ
def BX_LinkHouse_asName_2 (X : Nat → List Int → AMem → Prop) (E : Nat → AMem → Prop) (x1 s0 : Int) (σ : AMem) : Prop :=
  X 3 [1, x1, s0, 0] σ
def BX_LinkHouse_asName_3 (X : Nat → List Int → AMem → Prop) (E : Nat → AMem → Prop) (x1 x2 x3 : Int) (σ : AMem) : Prop :=
  (if x3 < x1 then
  (if x2 = 0 then
    X 5 [x1, x2] σ
    else
    0 ≤ x3 ∧ x3 < 8192 ∧ (if (σ 8276 x3) = 0 then
      X 4 [1, x1, x3, 0] σ
      else
      X 4 [1, x1, x3, 1] σ))
  else
  X 5 [x1, x2] σ)
def BX_LinkHouse_asName_4 (X : Nat → List Int → AMem → Prop) (E : Nat → AMem → Prop) (x1 x3 s0 : Int) (σ : AMem) : Prop :=
  am_r32 (x3 + 1) ∧ X 3 [1, x1, s0, (x3 + 1)] σ
def BX_LinkHouse_asName_5 (X : Nat → List Int → AMem → Prop) (E : Nat → AMem → Prop) (x1 x2 : Int) (σ : AMem) : Prop :=
  (T_LinkHouse_need [x2] σ (fun r1 σ2 => False) ∨ TX_LinkHouse_need [x2] σ E)
def BX_LinkHouse_asName : (Nat → List Int → AMem → Prop) → (Nat → AMem → Prop) → Nat → List Int → AMem → Prop := fun X E j v σ => am_sel [(am_v1 (fun t σ => if t = 1 then BX_LinkHouse_asName_0 X E σ else False)), (am_v2 (fun t x1 σ => if t = 1 then BX_LinkHouse_asName_1 X E x1 σ else False)), (am_v3 (fun t x1 s0 σ => if t = 1 then BX_LinkHouse_asName_2 X E x1 s0 σ else False)), (am_v4 (fun t x1 x2 x3 σ => if t = 1 then BX_LinkHouse_asName_3 X E x1 x2 x3 σ else False)), (am_v4 (fun t x1 x3 s0 σ => if t = 1 then BX_LinkHouse_asName_4 X E x1 x3 s0 σ else False)), (am_v2 (fun x1 x2 σ => BX_LinkHouse_asName_5 X E x1 x2 σ))] j v σ
def TX_LinkHouse_asName : List Int → AMem → (Nat → AMem → Prop) → Prop := am_TX BX_LinkHouse_asName
def ax_LinkHouse_asName : AX := (157, (y_LinkHouse_asName, prog_1_method_69_code, 4, (Option.some Jvm.ClassFile.FieldType.int)), [2], false, { frames := 9, cells := 1, slots := 6, locals := 248 }, TX_LinkHouse_asName)
abbrev kx_LinkHouse_asName : List AX := [ax_LinkHouse_need]
set_option maxRecDepth 100000 in
theorem sx_LinkHouse_asName : (am_chkR { frames := 9, cells := 1, slots := 6, locals := 248 } k_LinkHouse_asName && am_chkRX { frames := 9, cells := 1, slots := 6, locals := 248 } kx_LinkHouse_asName && am_chkN c_LinkHouse_asName { frames := 9, cells := 1, slots := 6, locals := 248 } && c_LinkHouse_asName.all (am_chk "LinkHouse" prog_1_method_69_code 4 (Option.some Jvm.ClassFile.FieldType.int) k_LinkHouse_asName) && c_LinkHouse_asName.all (am_chkX "LinkHouse" kx_LinkHouse_asName) && c_LinkHouse_asName.all (am_chkL m_LinkHouse_asName) && decide (m_LinkHouse_asName[0]? = some (0, am_argp 0 [2], [])) && decide (am_argn [2] ≤ 4)) = true := by decide +kernel
set_option maxHeartbeats 150000 in
set_option maxRecDepth 100000 in
theorem hx_LinkHouse_asName : ∀ X E j v σ, BX_LinkHouse_asName X E j v σ → am_atX GR k_LinkHouse_asName kx_LinkHouse_asName c_LinkHouse_asName m_LinkHouse_asName X E 43 j v σ := fun X E => am_sel_all (P := fun j v σ => am_atX GR k_LinkHouse_asName kx_LinkHouse_asName c_LinkHouse_asName m_LinkHouse_asName X E 43 j v σ) (⟨(am_v1_of (fun t σ h => am_tk (fun e => by subst e; exact fun h => h) h)), ⟨(am_v2_of (fun t x1 σ h => am_tk (fun e => by subst e; exact fun h => h) h)), ⟨(am_v3_of (fun t x1 s0 σ h => am_tk (fun e => by subst e; exact fun h => h) h)), ⟨(am_v4_of (fun t x1 x2 x3 σ h => am_tk (fun e => by subst e; exact fun h => h) h)), ⟨(am_v4_of (fun t x1 x3 s0 σ h => am_tk (fun e => by subst e; exact fun h => h) h)), ⟨(am_v2_of (fun x1 x2 σ h => h)), trivial⟩⟩⟩⟩⟩⟩)
set_option maxRecDepth 100000 in
theorem SX_LinkHouse_asName (l : Launch) (w : AW) (hfl : l.flags = pinnedFlags ++ [noTraceFlag]) : am_SX l w GR ax_LinkHouse_asName := am_soundX (cal := k_LinkHouse_asName) (calX := kx_LinkHouse_asName) 157 y_LinkHouse_asName prog_1_method_69_code 4 (Option.some Jvm.ClassFile.FieldType.int) [2] false { frames := 9, cells := 1, slots := 6, locals := 248 } BX_LinkHouse_asName "LinkHouse" c_LinkHouse_asName m_LinkHouse_asName 43 ms_LinkHouse_asName (by decide +kernel) rfl (am_cal (S_LinkHouse_need l w) (fun _ h => absurd h List.not_mem_nil)) (am_calX (SX_LinkHouse_need l w hfl) (fun _ h => absurd h List.not_mem_nil)) sx_LinkHouse_asName hx_LinkHouse_asName
set_option maxRecDepth 100000 in
theorem ofX_LinkHouse_asName {E : Nat → AMem → Prop} {σ : AMem} (h : ∀ X : Nat → List Int → AMem → Prop, (∀ (σ : AMem), BX_LinkHouse_asName_0 X E σ → X 0 [1] σ) → (∀ (x1 : Int) (σ : AMem), BX_LinkHouse_asName_1 X E x1 σ → X 1 [1, x1] σ) → (∀ (x1 s0 : Int) (σ : AMem), BX_LinkHouse_asName_2 X E x1 s0 σ → X 2 [1, x1, s0] σ) → (∀ (x1 x2 x3 : Int) (σ : AMem), BX_LinkHouse_asName_3 X E x1 x2 x3 σ → X 3 [1, x1, x2, x3] σ) → (∀ (x1 x3 s0 : Int) (σ : AMem), BX_LinkHouse_asName_4 X E x1 x3 s0 σ → X 4 [1, x1, x3, s0] σ) → (∀ (x1 x2 : Int) (σ : AMem), BX_LinkHouse_asName_5 X E x1 x2 σ → X 5 [x1, x2] σ) → X 0 [1] σ) : TX_LinkHouse_asName [1] σ E := fun X hX => h X (fun σ h => hX 0 [1] σ h) (fun x1 σ h => hX 1 [1, x1] σ h) (fun x1 s0 σ h => hX 2 [1, x1, s0] σ h) (fun x1 x2 x3 σ h => hX 3 [1, x1, x2, x3] σ h) (fun x1 x3 s0 σ h => hX 4 [1, x1, x3, s0] σ h) (fun x1 x2 σ h => hX 5 [x1, x2] σ h)
def BX_LinkHouse_give_0 (X : Nat → List Int → AMem → Prop) (E : Nat → AMem → Prop) (x1 : Int) (σ : AMem) : Prop :=
  (T_LinkHouse_asName [1] σ (fun r1 σ2 => (if (σ2 1 38) < 16 then
  T_LinkHouse_placeOf [8303, 8337, (σ2 1 38), 8276, r1] σ2 (fun r3 σ4 => (if r3 < 0 then
    X 2 [1, x1, r1, 1] σ4
    else
    X 1 [1, x1, r1] σ4))
  else
  X 1 [1, x1, r1] σ2)) ∨ TX_LinkHouse_asName [1] σ E)
def BX_LinkHouse_give_1 (X : Nat → List Int → AMem → Prop) (E : Nat → AMem → Prop) (x1 x3 : Int) (σ : AMem) : Prop :=
  X 2 [1, x1, x3, 0] σ
def BX_LinkHouse_give_2 (X : Nat → List Int → AMem → Prop) (E : Nat → AMem → Prop) (x1 x3 s0 : Int) (σ : AMem) : Prop :=
  (T_LinkHouse_ready [s0] σ (fun r1 σ2 => 0 ≤ (σ2 1 38) ∧ (σ2 1 38) < 16 ∧ (if ly_k (σ2 8303 (σ2 1 38)) = 2 then (0 : Int) ≤ 0 ∧ (0 : Int) ≤ 0 ∧ 0 ≤ x3 ∧ 0 + x3 ≤ 8192 ∧ 0 + x3 ≤ ly_l (σ2 8303 (σ2 1 38)) ∧ am_let (am_cp σ2 8276 0 (σ2 8303 (σ2 1 38)) 0 x3) (fun σ3 => 0 ≤ (σ3 1 38) ∧ (σ3 1 38) < 16 ∧ am_let (am_upd σ3 8337 (σ3 1 38) x3) (fun σ4 => am_r32 ((σ4 1 38) + 1) ∧ am_let (am_upd σ4 1 38 ((σ4 1 38) + 1)) (fun σ5 => 0 ≤ (σ4 1 38) ∧ (σ4 1 38) < 16 ∧ am_let (am_upd σ5 8339 (σ4 1 38) x1) (fun σ6 => False)))) else False)) ∨ TX_LinkHouse_ready [s0] σ E)
def BX_LinkHouse_give : (Nat → List Int → AMem → Prop) → (Nat → AMem → Prop) → Nat → List Int → AMem → Prop := fun X E j v σ => am_sel [(am_v2 (fun t x1 σ => if t = 1 then BX_LinkHouse_give_0 X E x1 σ else False)), (am_v3 (fun t x1 x3 σ => if t = 1 then BX_LinkHouse_give_1 X E x1 x3 σ else False)), (am_v4 (fun t x1 x3 s0 σ => if t = 1 then BX_LinkHouse_give_2 X E x1 x3 s0 σ else False))] j v σ
def TX_LinkHouse_give : List Int → AMem → (Nat → AMem → Prop) → Prop := am_TX BX_LinkHouse_give
def ax_LinkHouse_give : AX := (159, (y_LinkHouse_give, prog_1_method_70_code, 4, (Option.some Jvm.ClassFile.FieldType.int)), [2, 1], false, { frames := 10, cells := 1, slots := 6, locals := 279 }, TX_LinkHouse_give)
abbrev kx_LinkHouse_give : List AX := [ax_LinkHouse_asName, ax_LinkHouse_ready]
set_option maxRecDepth 100000 in
theorem sx_LinkHouse_give : (am_chkR { frames := 10, cells := 1, slots := 6, locals := 279 } k_LinkHouse_give && am_chkRX { frames := 10, cells := 1, slots := 6, locals := 279 } kx_LinkHouse_give && am_chkN c_LinkHouse_give { frames := 10, cells := 1, slots := 6, locals := 279 } && c_LinkHouse_give.all (am_chk "LinkHouse" prog_1_method_70_code 4 (Option.some Jvm.ClassFile.FieldType.int) k_LinkHouse_give) && c_LinkHouse_give.all (am_chkX "LinkHouse" kx_LinkHouse_give) && c_LinkHouse_give.all (am_chkL m_LinkHouse_give) && decide (m_LinkHouse_give[0]? = some (0, am_argp 0 [2, 1], [])) && decide (am_argn [2, 1] ≤ 4)) = true := by decide +kernel
set_option maxHeartbeats 150000 in
set_option maxRecDepth 100000 in
theorem hx_LinkHouse_give : ∀ X E j v σ, BX_LinkHouse_give X E j v σ → am_atX GR k_LinkHouse_give kx_LinkHouse_give c_LinkHouse_give m_LinkHouse_give X E 58 j v σ := fun X E => am_sel_all (P := fun j v σ => am_atX GR k_LinkHouse_give kx_LinkHouse_give c_LinkHouse_give m_LinkHouse_give X E 58 j v σ) (⟨(am_v2_of (fun t x1 σ h => am_tk (fun e => by subst e; exact fun h => h) h)), ⟨(am_v3_of (fun t x1 x3 σ h => am_tk (fun e => by subst e; exact fun h => h) h)), ⟨(am_v4_of (fun t x1 x3 s0 σ h => am_tk (fun e => by subst e; exact fun h => h) h)), trivial⟩⟩⟩)
set_option maxRecDepth 100000 in
theorem SX_LinkHouse_give (l : Launch) (w : AW) (hfl : l.flags = pinnedFlags ++ [noTraceFlag]) : am_SX l w GR ax_LinkHouse_give := am_soundX (cal := k_LinkHouse_give) (calX := kx_LinkHouse_give) 159 y_LinkHouse_give prog_1_method_70_code 4 (Option.some Jvm.ClassFile.FieldType.int) [2, 1] false { frames := 10, cells := 1, slots := 6, locals := 279 } BX_LinkHouse_give "LinkHouse" c_LinkHouse_give m_LinkHouse_give 58 ms_LinkHouse_give (by decide +kernel) rfl (am_cal (S_LinkHouse_asName l w) (am_cal (S_LinkHouse_placeOf l w) (am_cal (S_LinkHouse_ready l w) (fun _ h => absurd h List.not_mem_nil)))) (am_calX (SX_LinkHouse_asName l w hfl) (am_calX (SX_LinkHouse_ready l w hfl) (fun _ h => absurd h List.not_mem_nil))) sx_LinkHouse_give hx_LinkHouse_give
set_option maxRecDepth 100000 in
theorem ofX_LinkHouse_give {E : Nat → AMem → Prop} {x1 : Int} {σ : AMem} (h : ∀ X : Nat → List Int → AMem → Prop, (∀ (x1 : Int) (σ : AMem), BX_LinkHouse_give_0 X E x1 σ → X 0 [1, x1] σ) → (∀ (x1 x3 : Int) (σ : AMem), BX_LinkHouse_give_1 X E x1 x3 σ → X 1 [1, x1, x3] σ) → (∀ (x1 x3 s0 : Int) (σ : AMem), BX_LinkHouse_give_2 X E x1 x3 s0 σ → X 2 [1, x1, x3, s0] σ) → X 0 [1, x1] σ) : TX_LinkHouse_give [1, x1] σ E := fun X hX => h X (fun x1 σ h => hX 0 [1, x1] σ h) (fun x1 x3 σ h => hX 1 [1, x1, x3] σ h) (fun x1 x3 s0 σ h => hX 2 [1, x1, x3, s0] σ h)
def BX_LinkHouse_wish_0 (X : Nat → List Int → AMem → Prop) (E : Nat → AMem → Prop) (σ : AMem) : Prop :=
  (T_LinkHouse_asName [1] σ (fun r1 σ2 => (if (σ2 1 39) < 16 then
  T_LinkHouse_placeOf [8320, 8338, (σ2 1 39), 8276, r1] σ2 (fun r3 σ4 => (if r3 < 0 then
    X 2 [1, r1, 1] σ4
    else
    X 1 [1, r1] σ4))
  else
  X 1 [1, r1] σ2)) ∨ TX_LinkHouse_asName [1] σ E)
def BX_LinkHouse_wish_1 (X : Nat → List Int → AMem → Prop) (E : Nat → AMem → Prop) (x1 : Int) (σ : AMem) : Prop :=
  X 2 [1, x1, 0] σ
def BX_LinkHouse_wish_2 (X : Nat → List Int → AMem → Prop) (E : Nat → AMem → Prop) (x1 s0 : Int) (σ : AMem) : Prop :=
  (T_LinkHouse_ready [s0] σ (fun r1 σ2 => 0 ≤ (σ2 1 39) ∧ (σ2 1 39) < 16 ∧ (if ly_k (σ2 8320 (σ2 1 39)) = 2 then (0 : Int) ≤ 0 ∧ (0 : Int) ≤ 0 ∧ 0 ≤ x1 ∧ 0 + x1 ≤ 8192 ∧ 0 + x1 ≤ ly_l (σ2 8320 (σ2 1 39)) ∧ am_let (am_cp σ2 8276 0 (σ2 8320 (σ2 1 39)) 0 x1) (fun σ3 => am_r32 ((σ3 1 39) + 1) ∧ am_let (am_upd σ3 1 39 ((σ3 1 39) + 1)) (fun σ4 => 0 ≤ (σ3 1 39) ∧ (σ3 1 39) < 16 ∧ am_let (am_upd σ4 8338 (σ3 1 39) x1) (fun σ5 => False))) else False)) ∨ TX_LinkHouse_ready [s0] σ E)
def BX_LinkHouse_wish : (Nat → List Int → AMem → Prop) → (Nat → AMem → Prop) → Nat → List Int → AMem → Prop := fun X E j v σ => am_sel [(am_v1 (fun t σ => if t = 1 then BX_LinkHouse_wish_0 X E σ else False)), (am_v2 (fun t x1 σ => if t = 1 then BX_LinkHouse_wish_1 X E x1 σ else False)), (am_v3 (fun t x1 s0 σ => if t = 1 then BX_LinkHouse_wish_2 X E x1 s0 σ else False))] j v σ
def TX_LinkHouse_wish : List Int → AMem → (Nat → AMem → Prop) → Prop := am_TX BX_LinkHouse_wish
def ax_LinkHouse_wish : AX := (160, (y_LinkHouse_wish, prog_1_method_71_code, 2, (Option.some Jvm.ClassFile.FieldType.int)), [2], false, { frames := 10, cells := 1, slots := 6, locals := 279 }, TX_LinkHouse_wish)
abbrev kx_LinkHouse_wish : List AX := [ax_LinkHouse_asName, ax_LinkHouse_ready]
set_option maxRecDepth 100000 in
theorem sx_LinkHouse_wish : (am_chkR { frames := 10, cells := 1, slots := 6, locals := 279 } k_LinkHouse_wish && am_chkRX { frames := 10, cells := 1, slots := 6, locals := 279 } kx_LinkHouse_wish && am_chkN c_LinkHouse_wish { frames := 10, cells := 1, slots := 6, locals := 279 } && c_LinkHouse_wish.all (am_chk "LinkHouse" prog_1_method_71_code 2 (Option.some Jvm.ClassFile.FieldType.int) k_LinkHouse_wish) && c_LinkHouse_wish.all (am_chkX "LinkHouse" kx_LinkHouse_wish) && c_LinkHouse_wish.all (am_chkL m_LinkHouse_wish) && decide (m_LinkHouse_wish[0]? = some (0, am_argp 0 [2], [])) && decide (am_argn [2] ≤ 2)) = true := by decide +kernel
set_option maxHeartbeats 150000 in
set_option maxRecDepth 100000 in
theorem hx_LinkHouse_wish : ∀ X E j v σ, BX_LinkHouse_wish X E j v σ → am_atX GR k_LinkHouse_wish kx_LinkHouse_wish c_LinkHouse_wish m_LinkHouse_wish X E 52 j v σ := fun X E => am_sel_all (P := fun j v σ => am_atX GR k_LinkHouse_wish kx_LinkHouse_wish c_LinkHouse_wish m_LinkHouse_wish X E 52 j v σ) (⟨(am_v1_of (fun t σ h => am_tk (fun e => by subst e; exact fun h => h) h)), ⟨(am_v2_of (fun t x1 σ h => am_tk (fun e => by subst e; exact fun h => h) h)), ⟨(am_v3_of (fun t x1 s0 σ h => am_tk (fun e => by subst e; exact fun h => h) h)), trivial⟩⟩⟩)
set_option maxRecDepth 100000 in
theorem SX_LinkHouse_wish (l : Launch) (w : AW) (hfl : l.flags = pinnedFlags ++ [noTraceFlag]) : am_SX l w GR ax_LinkHouse_wish := am_soundX (cal := k_LinkHouse_wish) (calX := kx_LinkHouse_wish) 160 y_LinkHouse_wish prog_1_method_71_code 2 (Option.some Jvm.ClassFile.FieldType.int) [2] false { frames := 10, cells := 1, slots := 6, locals := 279 } BX_LinkHouse_wish "LinkHouse" c_LinkHouse_wish m_LinkHouse_wish 52 ms_LinkHouse_wish (by decide +kernel) rfl (am_cal (S_LinkHouse_asName l w) (am_cal (S_LinkHouse_placeOf l w) (am_cal (S_LinkHouse_ready l w) (fun _ h => absurd h List.not_mem_nil)))) (am_calX (SX_LinkHouse_asName l w hfl) (am_calX (SX_LinkHouse_ready l w hfl) (fun _ h => absurd h List.not_mem_nil))) sx_LinkHouse_wish hx_LinkHouse_wish
set_option maxRecDepth 100000 in
theorem ofX_LinkHouse_wish {E : Nat → AMem → Prop} {σ : AMem} (h : ∀ X : Nat → List Int → AMem → Prop, (∀ (σ : AMem), BX_LinkHouse_wish_0 X E σ → X 0 [1] σ) → (∀ (x1 : Int) (σ : AMem), BX_LinkHouse_wish_1 X E x1 σ → X 1 [1, x1] σ) → (∀ (x1 s0 : Int) (σ : AMem), BX_LinkHouse_wish_2 X E x1 s0 σ → X 2 [1, x1, s0] σ) → X 0 [1] σ) : TX_LinkHouse_wish [1] σ E := fun X hX => h X (fun σ h => hX 0 [1] σ h) (fun x1 σ h => hX 1 [1, x1] σ h) (fun x1 s0 σ h => hX 2 [1, x1, s0] σ h)
def BX_LinkHouse_named_0 (X : Nat → List Int → AMem → Prop) (E : Nat → AMem → Prop) (σ : AMem) : Prop :=
  (if (σ 1 24) = 0 then
  X 1 [1, 1] σ
  else
  X 1 [1, 0] σ)
def BX_LinkHouse_named_1 (X : Nat → List Int → AMem → Prop) (E : Nat → AMem → Prop) (s0 : Int) (σ : AMem) : Prop :=
  (T_LinkHouse_ready [s0] σ (fun r1 σ2 => T_LinkHouse_up [(w32 (σ2 1 26)), 8] σ2 (fun r3 σ4 => am_r32 ((σ4 16 4) + 1) ∧ am_r32 (24 * ((σ4 16 4) + 1)) ∧ am_r32 ((w32 r3) + (24 * ((σ4 16 4) + 1))) ∧ am_let ((w32 r3) + (24 * ((σ4 16 4) + 1))) (fun y5 => X 2 [1, 1, (w32 (σ2 1 26)), (w32 r3), y5, 0] σ4))) ∨ TX_LinkHouse_ready [s0] σ E)
def BX_LinkHouse_named_2 (X : Nat → List Int → AMem → Prop) (E : Nat → AMem → Prop) (x1 x2 x3 x4 x5 : Int) (σ : AMem) : Prop :=
  (if x5 < (σ 16 4) then
  0 ≤ x5 ∧ x5 < 4128 ∧ (if ly_k (σ 19 x5) = 23 then am_r32 ((am_rd GR σ (σ 19 x5) 1) + 1) ∧ am_r32 (x1 + ((am_rd GR σ (σ 19 x5) 1) + 1)) ∧ am_let (x1 + ((am_rd GR σ (σ 19 x5) 1) + 1)) (fun y4 => am_r32 (x5 + 1) ∧ X 2 [1, y4, x2, x3, x4, (x5 + 1)] σ) else False)
  else
  am_r32 (x4 + x1) ∧ T_LinkHouse_up [(x4 + x1), 8] σ (fun r1 σ2 => am_r32 ((σ2 1 23) + 3) ∧ am_r32 (64 * ((σ2 1 23) + 3)) ∧ am_r32 ((w32 r1) + (64 * ((σ2 1 23) + 3))) ∧ (if 65536 < ((w32 r1) + (64 * ((σ2 1 23) + 3))) then
    False
    else
    (if ly_k (σ2 1 6) = 2 then (0 : Int) ≤ 0 ∧ (0 : Int) ≤ 0 ∧ 0 ≤ x2 ∧ 0 + x2 ≤ 65544 ∧ 0 + x2 ≤ ly_l (σ2 1 6) ∧ am_let (am_cp σ2 8355 0 (σ2 1 6) 0 x2) (fun σ3 => X 3 [1, x1, x3, x4, (w32 r1), ((σ2 1 23) + 3), x2] σ3) else False))))
def BX_LinkHouse_named_3 (X : Nat → List Int → AMem → Prop) (E : Nat → AMem → Prop) (x1 x3 x4 x5 x6 x7 : Int) (σ : AMem) : Prop :=
  am_r32 (64 * x6) ∧ am_r32 (x5 + (64 * x6)) ∧ (if x7 < (x5 + (64 * x6)) then
  (if ly_k (σ 1 6) = 2 then 0 ≤ x7 ∧ x7 < ly_l (σ 1 6) ∧ am_let (am_upd σ (σ 1 6) x7 (w8 0)) (fun σ1 => am_r32 (x7 + 1) ∧ X 3 [1, x1, x3, x4, x5, x6, (x7 + 1)] σ1) else False)
  else
  am_r32 (x4 + 1) ∧ X 4 [1, x1, x3, x4, x5, x6, (x4 + 1), 0] σ)
def BX_LinkHouse_named_4 (X : Nat → List Int → AMem → Prop) (E : Nat → AMem → Prop) (x1 x3 x4 x5 x6 x7 x8 : Int) (σ : AMem) : Prop :=
  (if x8 < (σ 16 4) then
  0 ≤ x8 ∧ x8 < 4128 ∧ am_r32 (x8 + 1) ∧ am_r32 (x7 - x4) ∧ T_LinkHouse_nameSymbol [1, (σ 19 x8), (w64 (x3 + (w64 (24 * (x8 + 1))))), (x7 - x4)] σ (fun r12 σ13 => (if ly_k (σ 19 x8) = 23 then (if ly_k (σ 19 x8) = 23 then (if ly_k (am_rd GR σ13 (σ 19 x8) 0) = 2 then (if ly_k (σ13 1 6) = 2 then (0 : Int) ≤ 0 ∧ 0 ≤ x7 ∧ 0 ≤ (am_rd GR σ13 (σ 19 x8) 1) ∧ 0 + (am_rd GR σ13 (σ 19 x8) 1) ≤ ly_l (am_rd GR σ13 (σ 19 x8) 0) ∧ x7 + (am_rd GR σ13 (σ 19 x8) 1) ≤ ly_l (σ13 1 6) ∧ am_let (am_cp σ13 (am_rd GR σ13 (σ 19 x8) 0) 0 (σ13 1 6) x7 (am_rd GR σ13 (σ 19 x8) 1)) (fun σ14 => (if ly_k (σ 19 x8) = 23 then am_r32 ((am_rd GR σ14 (σ 19 x8) 1) + 1) ∧ am_r32 (x7 + ((am_rd GR σ14 (σ 19 x8) 1) + 1)) ∧ am_let (x7 + ((am_rd GR σ14 (σ 19 x8) 1) + 1)) (fun y15 => am_r32 (x8 + 1) ∧ X 4 [1, x1, x3, x4, x5, x6, y15, (x8 + 1)] σ14) else False)) else False) else False) else False) else False))
  else
  T_LinkHouse_sectionRows [1, x5, x3, x4, x1] σ (fun r1 σ2 => T_LinkHouse_layTo [(σ2 1 6), 40, 8, x5] σ2 (fun r3 σ4 => T_LinkHouse_layTo [(σ4 1 6), 58, 2, 64] σ4 (fun r5 σ6 => T_LinkHouse_layTo [(σ6 1 6), 60, 2, x6] σ6 (fun r7 σ8 => T_LinkHouse_layTo [(σ8 1 6), 62, 2, (w64 (x6 - 1))] σ8 (fun r9 σ10 => am_r32 (64 * x6) ∧ am_r32 (x5 + (64 * x6)) ∧ am_let (am_upd σ10 1 20 (x5 + (64 * x6))) (fun σ11 => False)))))))
def BX_LinkHouse_named : (Nat → List Int → AMem → Prop) → (Nat → AMem → Prop) → Nat → List Int → AMem → Prop := fun X E j v σ => am_sel [(am_v1 (fun t σ => if t = 1 then BX_LinkHouse_named_0 X E σ else False)), (am_v2 (fun t s0 σ => if t = 1 then BX_LinkHouse_named_1 X E s0 σ else False)), (am_v6 (fun t x1 x2 x3 x4 x5 σ => if t = 1 then BX_LinkHouse_named_2 X E x1 x2 x3 x4 x5 σ else False)), (am_v7 (fun t x1 x3 x4 x5 x6 x7 σ => if t = 1 then BX_LinkHouse_named_3 X E x1 x3 x4 x5 x6 x7 σ else False)), (am_v8 (fun t x1 x3 x4 x5 x6 x7 x8 σ => if t = 1 then BX_LinkHouse_named_4 X E x1 x3 x4 x5 x6 x7 x8 σ else False))] j v σ
def TX_LinkHouse_named : List Int → AMem → (Nat → AMem → Prop) → Prop := am_TX BX_LinkHouse_named
def ax_LinkHouse_named : AX := (165, (y_LinkHouse_named, prog_1_method_85_code, 10, (Option.some Jvm.ClassFile.FieldType.int)), [2], false, { frames := 9, cells := 1, slots := 6, locals := 248 }, TX_LinkHouse_named)
abbrev kx_LinkHouse_named : List AX := [ax_LinkHouse_ready]
set_option maxRecDepth 100000 in
theorem sx_LinkHouse_named : (am_chkR { frames := 9, cells := 1, slots := 6, locals := 248 } k_LinkHouse_named && am_chkRX { frames := 9, cells := 1, slots := 6, locals := 248 } kx_LinkHouse_named && am_chkN c_LinkHouse_named { frames := 9, cells := 1, slots := 6, locals := 248 } && c_LinkHouse_named.all (am_chk "LinkHouse" prog_1_method_85_code 10 (Option.some Jvm.ClassFile.FieldType.int) k_LinkHouse_named) && c_LinkHouse_named.all (am_chkX "LinkHouse" kx_LinkHouse_named) && c_LinkHouse_named.all (am_chkL m_LinkHouse_named) && decide (m_LinkHouse_named[0]? = some (0, am_argp 0 [2], [])) && decide (am_argn [2] ≤ 10)) = true := by decide +kernel
set_option maxHeartbeats 150000 in
set_option maxRecDepth 100000 in
theorem hx_LinkHouse_named : ∀ X E j v σ, BX_LinkHouse_named X E j v σ → am_atX GR k_LinkHouse_named kx_LinkHouse_named c_LinkHouse_named m_LinkHouse_named X E 195 j v σ := fun X E => am_sel_all (P := fun j v σ => am_atX GR k_LinkHouse_named kx_LinkHouse_named c_LinkHouse_named m_LinkHouse_named X E 195 j v σ) (⟨(am_v1_of (fun t σ h => am_tk (fun e => by subst e; exact fun h => h) h)), ⟨(am_v2_of (fun t s0 σ h => am_tk (fun e => by subst e; exact fun h => h) h)), ⟨(am_v6_of (fun t x1 x2 x3 x4 x5 σ h => am_tk (fun e => by subst e; exact fun h => h) h)), ⟨(am_v7_of (fun t x1 x3 x4 x5 x6 x7 σ h => am_tk (fun e => by subst e; exact fun h => h) h)), ⟨(am_v8_of (fun t x1 x3 x4 x5 x6 x7 x8 σ h => am_tk (fun e => by subst e; exact fun h => h) h)), trivial⟩⟩⟩⟩⟩)
set_option maxRecDepth 100000 in
theorem SX_LinkHouse_named (l : Launch) (w : AW) (hfl : l.flags = pinnedFlags ++ [noTraceFlag]) : am_SX l w GR ax_LinkHouse_named := am_soundX (cal := k_LinkHouse_named) (calX := kx_LinkHouse_named) 165 y_LinkHouse_named prog_1_method_85_code 10 (Option.some Jvm.ClassFile.FieldType.int) [2] false { frames := 9, cells := 1, slots := 6, locals := 248 } BX_LinkHouse_named "LinkHouse" c_LinkHouse_named m_LinkHouse_named 195 ms_LinkHouse_named (by decide +kernel) rfl (am_cal (S_LinkHouse_ready l w) (am_cal (S_LinkHouse_up l w) (am_cal (S_LinkHouse_nameSymbol l w) (am_cal (S_LinkHouse_sectionRows l w) (am_cal (S_LinkHouse_layTo l w) (fun _ h => absurd h List.not_mem_nil)))))) (am_calX (SX_LinkHouse_ready l w hfl) (fun _ h => absurd h List.not_mem_nil)) sx_LinkHouse_named hx_LinkHouse_named
set_option maxRecDepth 100000 in
theorem ofX_LinkHouse_named {E : Nat → AMem → Prop} {σ : AMem} (h : ∀ X : Nat → List Int → AMem → Prop, (∀ (σ : AMem), BX_LinkHouse_named_0 X E σ → X 0 [1] σ) → (∀ (s0 : Int) (σ : AMem), BX_LinkHouse_named_1 X E s0 σ → X 1 [1, s0] σ) → (∀ (x1 x2 x3 x4 x5 : Int) (σ : AMem), BX_LinkHouse_named_2 X E x1 x2 x3 x4 x5 σ → X 2 [1, x1, x2, x3, x4, x5] σ) → (∀ (x1 x3 x4 x5 x6 x7 : Int) (σ : AMem), BX_LinkHouse_named_3 X E x1 x3 x4 x5 x6 x7 σ → X 3 [1, x1, x3, x4, x5, x6, x7] σ) → (∀ (x1 x3 x4 x5 x6 x7 x8 : Int) (σ : AMem), BX_LinkHouse_named_4 X E x1 x3 x4 x5 x6 x7 x8 σ → X 4 [1, x1, x3, x4, x5, x6, x7, x8] σ) → X 0 [1] σ) : TX_LinkHouse_named [1] σ E := fun X hX => h X (fun σ h => hX 0 [1] σ h) (fun s0 σ h => hX 1 [1, s0] σ h) (fun x1 x2 x3 x4 x5 σ h => hX 2 [1, x1, x2, x3, x4, x5] σ h) (fun x1 x3 x4 x5 x6 x7 σ h => hX 3 [1, x1, x3, x4, x5, x6, x7] σ h) (fun x1 x3 x4 x5 x6 x7 x8 σ h => hX 4 [1, x1, x3, x4, x5, x6, x7, x8] σ h)
def BX_LinkHouse_list2_0 (X : Nat → List Int → AMem → Prop) (E : Nat → AMem → Prop) (x1 x2 : Int) (σ : AMem) : Prop :=
  am_r32 ((σ 1 18) - 1) ∧ T_LinkHouse_in [x1, 0, ((σ 1 18) - 1)] σ (fun r1 σ2 => (if r1 = 0 then
  X 1 [1, x1, x2] σ2
  else
  0 ≤ x1 ∧ x1 < 8 ∧ (if ly_k (σ2 15 x1) = 26 then am_r32 ((am_rd GR σ2 (σ2 15 x1) 3) - 1) ∧ T_LinkHouse_in [x2, 0, ((am_rd GR σ2 (σ2 15 x1) 3) - 1)] σ2 (fun r3 σ4 => (if r3 = 0 then
    X 1 [1, x1, x2] σ4
    else
    0 ≤ x1 ∧ x1 < 8 ∧ (if ly_k (σ4 15 x1) = 26 then (if ly_k (am_rd GR σ4 (σ4 15 x1) 1) = 5 then 0 ≤ x2 ∧ x2 < ly_l (am_rd GR σ4 (σ4 15 x1) 1) ∧ (if ly_k (σ4 (am_rd GR σ4 (σ4 15 x1) 1) x2) = 27 then (if (am_rd GR σ4 (σ4 (am_rd GR σ4 (σ4 15 x1) 1) x2) 7) = 0 then
      X 2 [1, x1, x2, 1] σ4
      else
      X 1 [1, x1, x2] σ4) else False) else False) else False))) else False)))
def BX_LinkHouse_list2_1 (X : Nat → List Int → AMem → Prop) (E : Nat → AMem → Prop) (x1 x2 : Int) (σ : AMem) : Prop :=
  X 2 [1, x1, x2, 0] σ
def BX_LinkHouse_list2_2 (X : Nat → List Int → AMem → Prop) (E : Nat → AMem → Prop) (x1 x2 s0 : Int) (σ : AMem) : Prop :=
  (T_LinkHouse_there [s0] σ (fun r1 σ2 => 0 ≤ x1 ∧ x1 < 8 ∧ (if ly_k (σ2 15 x1) = 26 then (if ly_k (am_rd GR σ2 (σ2 15 x1) 1) = 5 then 0 ≤ x2 ∧ x2 < ly_l (am_rd GR σ2 (σ2 15 x1) 1) ∧ am_let (σ2 (am_rd GR σ2 (σ2 15 x1) 1) x2) (fun y3 => am_let (am_upd σ2 1 60 0) (fun σ4 => X 3 [1, y3, 1] σ4)) else False) else False)) ∨ TX_LinkHouse_there [s0] σ E)
def BX_LinkHouse_list2_3 (X : Nat → List Int → AMem → Prop) (E : Nat → AMem → Prop) (x3 x4 : Int) (σ : AMem) : Prop :=
  (if ly_k x3 = 27 then (if x4 < (am_rd GR σ x3 4) then
  (if ly_k x3 = 27 then (if ly_k (am_rd GR σ x3 16) = 1 then 0 ≤ x4 ∧ x4 < ly_l (am_rd GR σ x3 16) ∧ (if (σ (am_rd GR σ x3 16) x4) = 0 then
    X 7 [1, x3, x4] σ
    else
    (if ly_k x3 = 27 then (if ly_k (am_rd GR σ x3 17) = 1 then 0 ≤ x4 ∧ x4 < ly_l (am_rd GR σ x3 17) ∧ (if (σ (am_rd GR σ x3 17) x4) = 0 then
      X 4 [1, x3, x4, 0] σ
      else
      (if ly_k x3 = 27 then (if ly_k (am_rd GR σ x3 19) = 4 then 0 ≤ x4 ∧ x4 < ly_l (am_rd GR σ x3 19) ∧ T_LinkHouse_hex [1, 8347, (σ (am_rd GR σ x3 19) x4)] σ (fun r3 σ4 => X 5 [1, x3, x4] σ4) else False) else False)) else False) else False)) else False) else False)
  else
  T_LinkHouse_outs [1, 8347, (σ 1 60)] σ (fun r1 σ2 => False)) else False)
def BX_LinkHouse_list2_4 (X : Nat → List Int → AMem → Prop) (E : Nat → AMem → Prop) (x3 x4 x5 : Int) (σ : AMem) : Prop :=
  (if x5 < 16 then
  am_r32 ((σ 1 60) + 1) ∧ am_let (am_upd σ 1 60 ((σ 1 60) + 1)) (fun σ1 => 0 ≤ (σ 1 60) ∧ (σ 1 60) < 8256 ∧ am_let (am_upd σ1 8347 (σ 1 60) (w8 32)) (fun σ2 => am_r32 (x5 + 1) ∧ X 4 [1, x3, x4, (x5 + 1)] σ2))
  else
  X 5 [1, x3, x4] σ)
def BX_LinkHouse_list2_5 (X : Nat → List Int → AMem → Prop) (E : Nat → AMem → Prop) (x3 x4 : Int) (σ : AMem) : Prop :=
  am_r32 ((σ 1 60) + 1) ∧ am_let (am_upd σ 1 60 ((σ 1 60) + 1)) (fun σ1 => 0 ≤ (σ 1 60) ∧ (σ 1 60) < 8256 ∧ am_let (am_upd σ1 8347 (σ 1 60) (w8 32)) (fun σ2 => am_r32 ((σ2 1 60) + 1) ∧ am_let (am_upd σ2 1 60 ((σ2 1 60) + 1)) (fun σ3 => T_LinkHouse_signOf [x3, x4] σ3 (fun r4 σ5 => 0 ≤ (σ2 1 60) ∧ (σ2 1 60) < 8256 ∧ am_let (am_upd σ5 8347 (σ2 1 60) (w8 (w8 r4))) (fun σ6 => am_r32 ((σ6 1 60) + 1) ∧ am_let (am_upd σ6 1 60 ((σ6 1 60) + 1)) (fun σ7 => 0 ≤ (σ6 1 60) ∧ (σ6 1 60) < 8256 ∧ am_let (am_upd σ7 8347 (σ6 1 60) (w8 32)) (fun σ8 => (if ly_k x3 = 27 then T_Part_letters [x3, x4] σ8 (fun r9 σ10 => X 6 [1, x3, x4, r9, 0] σ10) else False))))))))
def BX_LinkHouse_list2_6 (X : Nat → List Int → AMem → Prop) (E : Nat → AMem → Prop) (x3 x4 x5 x6 : Int) (σ : AMem) : Prop :=
  (if x6 < x5 then
  am_r32 ((σ 1 60) + 1) ∧ am_let (am_upd σ 1 60 ((σ 1 60) + 1)) (fun σ3 => (if ly_k x3 = 27 then T_Part_letter [x3, x4, x6] σ3 (fun r4 σ5 => 0 ≤ (σ 1 60) ∧ (σ 1 60) < 8256 ∧ am_let (am_upd σ5 8347 (σ 1 60) (w8 (w8 r4))) (fun σ6 => am_r32 (x6 + 1) ∧ X 6 [1, x3, x4, x5, (x6 + 1)] σ6)) else False))
  else
  am_r32 ((σ 1 60) + 1) ∧ am_let (am_upd σ 1 60 ((σ 1 60) + 1)) (fun σ1 => 0 ≤ (σ 1 60) ∧ (σ 1 60) < 8256 ∧ am_let (am_upd σ1 8347 (σ 1 60) (w8 10)) (fun σ2 => X 7 [1, x3, x4] σ2)))
def BX_LinkHouse_list2_7 (X : Nat → List Int → AMem → Prop) (E : Nat → AMem → Prop) (x3 x4 : Int) (σ : AMem) : Prop :=
  am_r32 (x4 + 1) ∧ X 3 [1, x3, (x4 + 1)] σ
def BX_LinkHouse_list2 : (Nat → List Int → AMem → Prop) → (Nat → AMem → Prop) → Nat → List Int → AMem → Prop := fun X E j v σ => am_sel [(am_v3 (fun t x1 x2 σ => if t = 1 then BX_LinkHouse_list2_0 X E x1 x2 σ else False)), (am_v3 (fun t x1 x2 σ => if t = 1 then BX_LinkHouse_list2_1 X E x1 x2 σ else False)), (am_v4 (fun t x1 x2 s0 σ => if t = 1 then BX_LinkHouse_list2_2 X E x1 x2 s0 σ else False)), (am_v3 (fun t x3 x4 σ => if t = 1 then BX_LinkHouse_list2_3 X E x3 x4 σ else False)), (am_v4 (fun t x3 x4 x5 σ => if t = 1 then BX_LinkHouse_list2_4 X E x3 x4 x5 σ else False)), (am_v3 (fun t x3 x4 σ => if t = 1 then BX_LinkHouse_list2_5 X E x3 x4 σ else False)), (am_v5 (fun t x3 x4 x5 x6 σ => if t = 1 then BX_LinkHouse_list2_6 X E x3 x4 x5 x6 σ else False)), (am_v3 (fun t x3 x4 σ => if t = 1 then BX_LinkHouse_list2_7 X E x3 x4 σ else False))] j v σ
def TX_LinkHouse_list2 : List Int → AMem → (Nat → AMem → Prop) → Prop := am_TX BX_LinkHouse_list2
def ax_LinkHouse_list2 : AX := (169, (y_LinkHouse_list2, prog_1_method_93_code, 7, (Option.some Jvm.ClassFile.FieldType.int)), [2, 0, 0], false, { frames := 9, cells := 1, slots := 6, locals := 248 }, TX_LinkHouse_list2)
abbrev kx_LinkHouse_list2 : List AX := [ax_LinkHouse_there]
set_option maxRecDepth 100000 in
theorem sx_LinkHouse_list2 : (am_chkR { frames := 9, cells := 1, slots := 6, locals := 248 } k_LinkHouse_list2 && am_chkRX { frames := 9, cells := 1, slots := 6, locals := 248 } kx_LinkHouse_list2 && am_chkN c_LinkHouse_list2 { frames := 9, cells := 1, slots := 6, locals := 248 } && c_LinkHouse_list2.all (am_chk "LinkHouse" prog_1_method_93_code 7 (Option.some Jvm.ClassFile.FieldType.int) k_LinkHouse_list2) && c_LinkHouse_list2.all (am_chkX "LinkHouse" kx_LinkHouse_list2) && c_LinkHouse_list2.all (am_chkL m_LinkHouse_list2) && decide (m_LinkHouse_list2[0]? = some (0, am_argp 0 [2, 0, 0], [])) && decide (am_argn [2, 0, 0] ≤ 7)) = true := by decide +kernel
set_option maxHeartbeats 150000 in
set_option maxRecDepth 100000 in
theorem hx_LinkHouse_list2 : ∀ X E j v σ, BX_LinkHouse_list2 X E j v σ → am_atX GR k_LinkHouse_list2 kx_LinkHouse_list2 c_LinkHouse_list2 m_LinkHouse_list2 X E 178 j v σ := fun X E => am_sel_all (P := fun j v σ => am_atX GR k_LinkHouse_list2 kx_LinkHouse_list2 c_LinkHouse_list2 m_LinkHouse_list2 X E 178 j v σ) (⟨(am_v3_of (fun t x1 x2 σ h => am_tk (fun e => by subst e; exact fun h => h) h)), ⟨(am_v3_of (fun t x1 x2 σ h => am_tk (fun e => by subst e; exact fun h => h) h)), ⟨(am_v4_of (fun t x1 x2 s0 σ h => am_tk (fun e => by subst e; exact fun h => h) h)), ⟨(am_v3_of (fun t x3 x4 σ h => am_tk (fun e => by subst e; exact fun h => h) h)), ⟨(am_v4_of (fun t x3 x4 x5 σ h => am_tk (fun e => by subst e; exact fun h => h) h)), ⟨(am_v3_of (fun t x3 x4 σ h => am_tk (fun e => by subst e; exact fun h => h) h)), ⟨(am_v5_of (fun t x3 x4 x5 x6 σ h => am_tk (fun e => by subst e; exact fun h => h) h)), ⟨(am_v3_of (fun t x3 x4 σ h => am_tk (fun e => by subst e; exact fun h => h) h)), trivial⟩⟩⟩⟩⟩⟩⟩⟩)
set_option maxRecDepth 100000 in
theorem SX_LinkHouse_list2 (l : Launch) (w : AW) (hfl : l.flags = pinnedFlags ++ [noTraceFlag]) : am_SX l w GR ax_LinkHouse_list2 := am_soundX (cal := k_LinkHouse_list2) (calX := kx_LinkHouse_list2) 169 y_LinkHouse_list2 prog_1_method_93_code 7 (Option.some Jvm.ClassFile.FieldType.int) [2, 0, 0] false { frames := 9, cells := 1, slots := 6, locals := 248 } BX_LinkHouse_list2 "LinkHouse" c_LinkHouse_list2 m_LinkHouse_list2 178 ms_LinkHouse_list2 (by decide +kernel) rfl (am_cal (S_LinkHouse_in l w) (am_cal (S_LinkHouse_there l w) (am_cal (S_LinkHouse_hex l w) (am_cal (S_LinkHouse_signOf l w) (am_cal (S_Part_letters l w) (am_cal (S_Part_letter l w) (am_cal (S_LinkHouse_outs l w) (fun _ h => absurd h List.not_mem_nil)))))))) (am_calX (SX_LinkHouse_there l w hfl) (fun _ h => absurd h List.not_mem_nil)) sx_LinkHouse_list2 hx_LinkHouse_list2
set_option maxRecDepth 100000 in
theorem ofX_LinkHouse_list2 {E : Nat → AMem → Prop} {x1 x2 : Int} {σ : AMem} (h : ∀ X : Nat → List Int → AMem → Prop, (∀ (x1 x2 : Int) (σ : AMem), BX_LinkHouse_list2_0 X E x1 x2 σ → X 0 [1, x1, x2] σ) → (∀ (x1 x2 : Int) (σ : AMem), BX_LinkHouse_list2_1 X E x1 x2 σ → X 1 [1, x1, x2] σ) → (∀ (x1 x2 s0 : Int) (σ : AMem), BX_LinkHouse_list2_2 X E x1 x2 s0 σ → X 2 [1, x1, x2, s0] σ) → (∀ (x3 x4 : Int) (σ : AMem), BX_LinkHouse_list2_3 X E x3 x4 σ → X 3 [1, x3, x4] σ) → (∀ (x3 x4 x5 : Int) (σ : AMem), BX_LinkHouse_list2_4 X E x3 x4 x5 σ → X 4 [1, x3, x4, x5] σ) → (∀ (x3 x4 : Int) (σ : AMem), BX_LinkHouse_list2_5 X E x3 x4 σ → X 5 [1, x3, x4] σ) → (∀ (x3 x4 x5 x6 : Int) (σ : AMem), BX_LinkHouse_list2_6 X E x3 x4 x5 x6 σ → X 6 [1, x3, x4, x5, x6] σ) → (∀ (x3 x4 : Int) (σ : AMem), BX_LinkHouse_list2_7 X E x3 x4 σ → X 7 [1, x3, x4] σ) → X 0 [1, x1, x2] σ) : TX_LinkHouse_list2 [1, x1, x2] σ E := fun X hX => h X (fun x1 x2 σ h => hX 0 [1, x1, x2] σ h) (fun x1 x2 σ h => hX 1 [1, x1, x2] σ h) (fun x1 x2 s0 σ h => hX 2 [1, x1, x2, s0] σ h) (fun x3 x4 σ h => hX 3 [1, x3, x4] σ h) (fun x3 x4 x5 σ h => hX 4 [1, x3, x4, x5] σ h) (fun x3 x4 σ h => hX 5 [1, x3, x4] σ h) (fun x3 x4 x5 x6 σ h => hX 6 [1, x3, x4, x5, x6] σ h) (fun x3 x4 σ h => hX 7 [1, x3, x4] σ h)
def BX_LinkHouse_sum_0 (X : Nat → List Int → AMem → Prop) (E : Nat → AMem → Prop) (x1 x2 x3 : Int) (σ : AMem) : Prop :=
  am_r32 ((σ 1 18) - 1) ∧ T_LinkHouse_in [x1, 0, ((σ 1 18) - 1)] σ (fun r1 σ2 => (if r1 = 0 then
  X 1 [1, x1, x2, x3] σ2
  else
  0 ≤ x1 ∧ x1 < 8 ∧ (if ly_k (σ2 15 x1) = 26 then am_r32 ((am_rd GR σ2 (σ2 15 x1) 3) - 1) ∧ T_LinkHouse_in [x2, 0, ((am_rd GR σ2 (σ2 15 x1) 3) - 1)] σ2 (fun r3 σ4 => (if r3 = 0 then
    X 1 [1, x1, x2, x3] σ4
    else
    0 ≤ x1 ∧ x1 < 8 ∧ (if ly_k (σ4 15 x1) = 26 then (if ly_k (am_rd GR σ4 (σ4 15 x1) 1) = 5 then 0 ≤ x2 ∧ x2 < ly_l (am_rd GR σ4 (σ4 15 x1) 1) ∧ (if ly_k (σ4 (am_rd GR σ4 (σ4 15 x1) 1) x2) = 27 then (if (am_rd GR σ4 (σ4 (am_rd GR σ4 (σ4 15 x1) 1) x2) 7) = 0 then
      T_LinkHouse_in [x3, 0, 5] σ4 (fun r5 σ6 => (if r5 = 0 then
        X 1 [1, x1, x2, x3] σ6
        else
        X 2 [1, x1, x2, x3, 1] σ6))
      else
      X 1 [1, x1, x2, x3] σ4) else False) else False) else False))) else False)))
def BX_LinkHouse_sum_1 (X : Nat → List Int → AMem → Prop) (E : Nat → AMem → Prop) (x1 x2 x3 : Int) (σ : AMem) : Prop :=
  X 2 [1, x1, x2, x3, 0] σ
def BX_LinkHouse_sum_2 (X : Nat → List Int → AMem → Prop) (E : Nat → AMem → Prop) (x1 x2 x3 s0 : Int) (σ : AMem) : Prop :=
  (T_LinkHouse_there [s0] σ (fun r1 σ2 => 0 ≤ x1 ∧ x1 < 8 ∧ (if ly_k (σ2 15 x1) = 26 then (if ly_k (am_rd GR σ2 (σ2 15 x1) 1) = 5 then 0 ≤ x2 ∧ x2 < ly_l (am_rd GR σ2 (σ2 15 x1) 1) ∧ am_let (σ2 (am_rd GR σ2 (σ2 15 x1) 1) x2) (fun y3 => X 3 [x3, y3, 0, 0] σ2) else False) else False)) ∨ TX_LinkHouse_there [s0] σ E)
def BX_LinkHouse_sum_3 (X : Nat → List Int → AMem → Prop) (E : Nat → AMem → Prop) (x3 x4 x5 x7 : Int) (σ : AMem) : Prop :=
  (if ly_k x4 = 27 then (if x7 < (am_rd GR σ x4 3) then
  (if ly_k x4 = 27 then T_Part_isLoaded [x4, x7] σ (fun r1 σ2 => (if r1 = 0 then
    X 4 [x3, x4, x5, x7] σ2
    else
    (if ly_k x4 = 27 then T_Part_group [x4, x7] σ2 (fun r3 σ4 => (if r3 = x3 then
      (if ly_k x4 = 27 then (if ly_k (am_rd GR σ4 x4 13) = 4 then 0 ≤ x7 ∧ x7 < ly_l (am_rd GR σ4 x4 13) ∧ am_let (w64 (x5 + (σ4 (am_rd GR σ4 x4 13) x7))) (fun y5 => X 4 [x3, x4, y5, x7] σ4) else False) else False)
      else
      X 4 [x3, x4, x5, x7] σ4)) else False))) else False)
  else
  False) else False)
def BX_LinkHouse_sum_4 (X : Nat → List Int → AMem → Prop) (E : Nat → AMem → Prop) (x3 x4 x5 x7 : Int) (σ : AMem) : Prop :=
  am_r32 (x7 + 1) ∧ X 3 [x3, x4, x5, (x7 + 1)] σ
def BX_LinkHouse_sum : (Nat → List Int → AMem → Prop) → (Nat → AMem → Prop) → Nat → List Int → AMem → Prop := fun X E j v σ => am_sel [(am_v4 (fun t x1 x2 x3 σ => if t = 1 then BX_LinkHouse_sum_0 X E x1 x2 x3 σ else False)), (am_v4 (fun t x1 x2 x3 σ => if t = 1 then BX_LinkHouse_sum_1 X E x1 x2 x3 σ else False)), (am_v5 (fun t x1 x2 x3 s0 σ => if t = 1 then BX_LinkHouse_sum_2 X E x1 x2 x3 s0 σ else False)), (am_v4 (fun x3 x4 x5 x7 σ => BX_LinkHouse_sum_3 X E x3 x4 x5 x7 σ)), (am_v4 (fun x3 x4 x5 x7 σ => BX_LinkHouse_sum_4 X E x3 x4 x5 x7 σ))] j v σ
def TX_LinkHouse_sum : List Int → AMem → (Nat → AMem → Prop) → Prop := am_TX BX_LinkHouse_sum
def ax_LinkHouse_sum : AX := (170, (y_LinkHouse_sum, prog_1_method_94_code, 8, (Option.some Jvm.ClassFile.FieldType.long)), [2, 0, 0, 0], false, { frames := 9, cells := 1, slots := 6, locals := 248 }, TX_LinkHouse_sum)
abbrev kx_LinkHouse_sum : List AX := [ax_LinkHouse_there]
set_option maxRecDepth 100000 in
theorem sx_LinkHouse_sum : (am_chkR { frames := 9, cells := 1, slots := 6, locals := 248 } k_LinkHouse_sum && am_chkRX { frames := 9, cells := 1, slots := 6, locals := 248 } kx_LinkHouse_sum && am_chkN c_LinkHouse_sum { frames := 9, cells := 1, slots := 6, locals := 248 } && c_LinkHouse_sum.all (am_chk "LinkHouse" prog_1_method_94_code 8 (Option.some Jvm.ClassFile.FieldType.long) k_LinkHouse_sum) && c_LinkHouse_sum.all (am_chkX "LinkHouse" kx_LinkHouse_sum) && c_LinkHouse_sum.all (am_chkL m_LinkHouse_sum) && decide (m_LinkHouse_sum[0]? = some (0, am_argp 0 [2, 0, 0, 0], [])) && decide (am_argn [2, 0, 0, 0] ≤ 8)) = true := by decide +kernel
set_option maxHeartbeats 150000 in
set_option maxRecDepth 100000 in
theorem hx_LinkHouse_sum : ∀ X E j v σ, BX_LinkHouse_sum X E j v σ → am_atX GR k_LinkHouse_sum kx_LinkHouse_sum c_LinkHouse_sum m_LinkHouse_sum X E 83 j v σ := fun X E => am_sel_all (P := fun j v σ => am_atX GR k_LinkHouse_sum kx_LinkHouse_sum c_LinkHouse_sum m_LinkHouse_sum X E 83 j v σ) (⟨(am_v4_of (fun t x1 x2 x3 σ h => am_tk (fun e => by subst e; exact fun h => h) h)), ⟨(am_v4_of (fun t x1 x2 x3 σ h => am_tk (fun e => by subst e; exact fun h => h) h)), ⟨(am_v5_of (fun t x1 x2 x3 s0 σ h => am_tk (fun e => by subst e; exact fun h => h) h)), ⟨(am_v4_of (fun x3 x4 x5 x7 σ h => h)), ⟨(am_v4_of (fun x3 x4 x5 x7 σ h => h)), trivial⟩⟩⟩⟩⟩)
set_option maxRecDepth 100000 in
theorem SX_LinkHouse_sum (l : Launch) (w : AW) (hfl : l.flags = pinnedFlags ++ [noTraceFlag]) : am_SX l w GR ax_LinkHouse_sum := am_soundX (cal := k_LinkHouse_sum) (calX := kx_LinkHouse_sum) 170 y_LinkHouse_sum prog_1_method_94_code 8 (Option.some Jvm.ClassFile.FieldType.long) [2, 0, 0, 0] false { frames := 9, cells := 1, slots := 6, locals := 248 } BX_LinkHouse_sum "LinkHouse" c_LinkHouse_sum m_LinkHouse_sum 83 ms_LinkHouse_sum (by decide +kernel) rfl (am_cal (S_LinkHouse_in l w) (am_cal (S_LinkHouse_there l w) (am_cal (S_Part_isLoaded l w) (am_cal (S_Part_group l w) (fun _ h => absurd h List.not_mem_nil))))) (am_calX (SX_LinkHouse_there l w hfl) (fun _ h => absurd h List.not_mem_nil)) sx_LinkHouse_sum hx_LinkHouse_sum
set_option maxRecDepth 100000 in
theorem ofX_LinkHouse_sum {E : Nat → AMem → Prop} {x1 x2 x3 : Int} {σ : AMem} (h : ∀ X : Nat → List Int → AMem → Prop, (∀ (x1 x2 x3 : Int) (σ : AMem), BX_LinkHouse_sum_0 X E x1 x2 x3 σ → X 0 [1, x1, x2, x3] σ) → (∀ (x1 x2 x3 : Int) (σ : AMem), BX_LinkHouse_sum_1 X E x1 x2 x3 σ → X 1 [1, x1, x2, x3] σ) → (∀ (x1 x2 x3 s0 : Int) (σ : AMem), BX_LinkHouse_sum_2 X E x1 x2 x3 s0 σ → X 2 [1, x1, x2, x3, s0] σ) → (∀ (x3 x4 x5 x7 : Int) (σ : AMem), BX_LinkHouse_sum_3 X E x3 x4 x5 x7 σ → X 3 [x3, x4, x5, x7] σ) → (∀ (x3 x4 x5 x7 : Int) (σ : AMem), BX_LinkHouse_sum_4 X E x3 x4 x5 x7 σ → X 4 [x3, x4, x5, x7] σ) → X 0 [1, x1, x2, x3] σ) : TX_LinkHouse_sum [1, x1, x2, x3] σ E := fun X hX => h X (fun x1 x2 x3 σ h => hX 0 [1, x1, x2, x3] σ h) (fun x1 x2 x3 σ h => hX 1 [1, x1, x2, x3] σ h) (fun x1 x2 x3 s0 σ h => hX 2 [1, x1, x2, x3, s0] σ h) (fun x3 x4 x5 x7 σ h => hX 3 [x3, x4, x5, x7] σ h) (fun x3 x4 x5 x7 σ h => hX 4 [x3, x4, x5, x7] σ h)
def BX_LinkHouse_map_0 (X : Nat → List Int → AMem → Prop) (E : Nat → AMem → Prop) (σ : AMem) : Prop :=
  (if (σ 1 24) = 0 then
  X 1 [1, 1] σ
  else
  X 1 [1, 0] σ)
def BX_LinkHouse_map_1 (X : Nat → List Int → AMem → Prop) (E : Nat → AMem → Prop) (s0 : Int) (σ : AMem) : Prop :=
  (T_LinkHouse_ready [s0] σ (fun r1 σ2 => am_let (am_upd σ2 1 60 0) (fun σ3 => X 2 [1, 1, 0] σ3)) ∨ TX_LinkHouse_ready [s0] σ E)
def BX_LinkHouse_map_2 (X : Nat → List Int → AMem → Prop) (E : Nat → AMem → Prop) (x1 x2 : Int) (σ : AMem) : Prop :=
  (if x2 < (σ 1 22) then
  (if x1 = 0 then
    X 4 [1, x1] σ
    else
    T_LinkHouse_mapSection [1, x2] σ (fun r1 σ2 => (if 65536 < (σ2 1 60) then
      X 3 [1, x2, 0] σ2
      else
      X 3 [1, x2, 1] σ2)))
  else
  X 4 [1, x1] σ)
def BX_LinkHouse_map_3 (X : Nat → List Int → AMem → Prop) (E : Nat → AMem → Prop) (x2 s0 : Int) (σ : AMem) : Prop :=
  am_r32 (x2 + 1) ∧ X 2 [1, s0, (x2 + 1)] σ
def BX_LinkHouse_map_4 (X : Nat → List Int → AMem → Prop) (E : Nat → AMem → Prop) (x1 : Int) (σ : AMem) : Prop :=
  X 5 [1, x1, 0] σ
def BX_LinkHouse_map_5 (X : Nat → List Int → AMem → Prop) (E : Nat → AMem → Prop) (x1 x2 : Int) (σ : AMem) : Prop :=
  (if x2 < (σ 16 4) then
  (if x1 = 0 then
    X 8 [1, x1] σ
    else
    0 ≤ x2 ∧ x2 < 4128 ∧ (if ly_k (σ 19 x2) = 23 then T_LinkHouse_hex [1, 8356, (am_rd GR σ (σ 19 x2) 14)] σ (fun r1 σ2 => am_r32 ((σ2 1 60) + 1) ∧ am_let (am_upd σ2 1 60 ((σ2 1 60) + 1)) (fun σ3 => 0 ≤ (σ2 1 60) ∧ (σ2 1 60) < 65600 ∧ am_let (am_upd σ3 8356 (σ2 1 60) (w8 32)) (fun σ4 => X 6 [1, x2, (σ 19 x2), 0] σ4))) else False))
  else
  X 8 [1, x1] σ)
def BX_LinkHouse_map_6 (X : Nat → List Int → AMem → Prop) (E : Nat → AMem → Prop) (x2 x3 x4 : Int) (σ : AMem) : Prop :=
  (if ly_k x3 = 23 then (if x4 < (am_rd GR σ x3 1) then
  am_r32 ((σ 1 60) + 1) ∧ am_let (am_upd σ 1 60 ((σ 1 60) + 1)) (fun σ3 => (if ly_k x3 = 23 then (if ly_k (am_rd GR σ3 x3 0) = 2 then 0 ≤ x4 ∧ x4 < ly_l (am_rd GR σ3 x3 0) ∧ 0 ≤ (σ 1 60) ∧ (σ 1 60) < 65600 ∧ am_let (am_upd σ3 8356 (σ 1 60) (w8 (σ3 (am_rd GR σ3 x3 0) x4))) (fun σ4 => am_r32 (x4 + 1) ∧ X 6 [1, x2, x3, (x4 + 1)] σ4) else False) else False))
  else
  am_r32 ((σ 1 60) + 1) ∧ am_let (am_upd σ 1 60 ((σ 1 60) + 1)) (fun σ1 => 0 ≤ (σ 1 60) ∧ (σ 1 60) < 65600 ∧ am_let (am_upd σ1 8356 (σ 1 60) (w8 10)) (fun σ2 => (if 65536 < (σ2 1 60) then
    X 7 [1, x2, 0] σ2
    else
    X 7 [1, x2, 1] σ2)))) else False)
def BX_LinkHouse_map_7 (X : Nat → List Int → AMem → Prop) (E : Nat → AMem → Prop) (x2 s0 : Int) (σ : AMem) : Prop :=
  am_r32 (x2 + 1) ∧ X 5 [1, s0, (x2 + 1)] σ
def BX_LinkHouse_map_8 (X : Nat → List Int → AMem → Prop) (E : Nat → AMem → Prop) (x1 : Int) (σ : AMem) : Prop :=
  (if x1 = 0 then
  False
  else
  T_LinkHouse_outs [1, 8356, (σ 1 60)] σ (fun r1 σ2 => False))
def BX_LinkHouse_map : (Nat → List Int → AMem → Prop) → (Nat → AMem → Prop) → Nat → List Int → AMem → Prop := fun X E j v σ => am_sel [(am_v1 (fun t σ => if t = 1 then BX_LinkHouse_map_0 X E σ else False)), (am_v2 (fun t s0 σ => if t = 1 then BX_LinkHouse_map_1 X E s0 σ else False)), (am_v3 (fun t x1 x2 σ => if t = 1 then BX_LinkHouse_map_2 X E x1 x2 σ else False)), (am_v3 (fun t x2 s0 σ => if t = 1 then BX_LinkHouse_map_3 X E x2 s0 σ else False)), (am_v2 (fun t x1 σ => if t = 1 then BX_LinkHouse_map_4 X E x1 σ else False)), (am_v3 (fun t x1 x2 σ => if t = 1 then BX_LinkHouse_map_5 X E x1 x2 σ else False)), (am_v4 (fun t x2 x3 x4 σ => if t = 1 then BX_LinkHouse_map_6 X E x2 x3 x4 σ else False)), (am_v3 (fun t x2 s0 σ => if t = 1 then BX_LinkHouse_map_7 X E x2 s0 σ else False)), (am_v2 (fun t x1 σ => if t = 1 then BX_LinkHouse_map_8 X E x1 σ else False))] j v σ
def TX_LinkHouse_map : List Int → AMem → (Nat → AMem → Prop) → Prop := am_TX BX_LinkHouse_map
def ax_LinkHouse_map : AX := (172, (y_LinkHouse_map, prog_1_method_95_code, 5, (Option.some Jvm.ClassFile.FieldType.int)), [2], false, { frames := 9, cells := 1, slots := 6, locals := 248 }, TX_LinkHouse_map)
abbrev kx_LinkHouse_map : List AX := [ax_LinkHouse_ready]
set_option maxRecDepth 100000 in
theorem sx_LinkHouse_map : (am_chkR { frames := 9, cells := 1, slots := 6, locals := 248 } k_LinkHouse_map && am_chkRX { frames := 9, cells := 1, slots := 6, locals := 248 } kx_LinkHouse_map && am_chkN c_LinkHouse_map { frames := 9, cells := 1, slots := 6, locals := 248 } && c_LinkHouse_map.all (am_chk "LinkHouse" prog_1_method_95_code 5 (Option.some Jvm.ClassFile.FieldType.int) k_LinkHouse_map) && c_LinkHouse_map.all (am_chkX "LinkHouse" kx_LinkHouse_map) && c_LinkHouse_map.all (am_chkL m_LinkHouse_map) && decide (m_LinkHouse_map[0]? = some (0, am_argp 0 [2], [])) && decide (am_argn [2] ≤ 5)) = true := by decide +kernel
set_option maxHeartbeats 150000 in
set_option maxRecDepth 100000 in
theorem hx_LinkHouse_map : ∀ X E j v σ, BX_LinkHouse_map X E j v σ → am_atX GR k_LinkHouse_map kx_LinkHouse_map c_LinkHouse_map m_LinkHouse_map X E 124 j v σ := fun X E => am_sel_all (P := fun j v σ => am_atX GR k_LinkHouse_map kx_LinkHouse_map c_LinkHouse_map m_LinkHouse_map X E 124 j v σ) (⟨(am_v1_of (fun t σ h => am_tk (fun e => by subst e; exact fun h => h) h)), ⟨(am_v2_of (fun t s0 σ h => am_tk (fun e => by subst e; exact fun h => h) h)), ⟨(am_v3_of (fun t x1 x2 σ h => am_tk (fun e => by subst e; exact fun h => h) h)), ⟨(am_v3_of (fun t x2 s0 σ h => am_tk (fun e => by subst e; exact fun h => h) h)), ⟨(am_v2_of (fun t x1 σ h => am_tk (fun e => by subst e; exact fun h => h) h)), ⟨(am_v3_of (fun t x1 x2 σ h => am_tk (fun e => by subst e; exact fun h => h) h)), ⟨(am_v4_of (fun t x2 x3 x4 σ h => am_tk (fun e => by subst e; exact fun h => h) h)), ⟨(am_v3_of (fun t x2 s0 σ h => am_tk (fun e => by subst e; exact fun h => h) h)), ⟨(am_v2_of (fun t x1 σ h => am_tk (fun e => by subst e; exact fun h => h) h)), trivial⟩⟩⟩⟩⟩⟩⟩⟩⟩)
set_option maxRecDepth 100000 in
theorem SX_LinkHouse_map (l : Launch) (w : AW) (hfl : l.flags = pinnedFlags ++ [noTraceFlag]) : am_SX l w GR ax_LinkHouse_map := am_soundX (cal := k_LinkHouse_map) (calX := kx_LinkHouse_map) 172 y_LinkHouse_map prog_1_method_95_code 5 (Option.some Jvm.ClassFile.FieldType.int) [2] false { frames := 9, cells := 1, slots := 6, locals := 248 } BX_LinkHouse_map "LinkHouse" c_LinkHouse_map m_LinkHouse_map 124 ms_LinkHouse_map (by decide +kernel) rfl (am_cal (S_LinkHouse_ready l w) (am_cal (S_LinkHouse_mapSection l w) (am_cal (S_LinkHouse_hex l w) (am_cal (S_LinkHouse_outs l w) (fun _ h => absurd h List.not_mem_nil))))) (am_calX (SX_LinkHouse_ready l w hfl) (fun _ h => absurd h List.not_mem_nil)) sx_LinkHouse_map hx_LinkHouse_map
set_option maxRecDepth 100000 in
theorem ofX_LinkHouse_map {E : Nat → AMem → Prop} {σ : AMem} (h : ∀ X : Nat → List Int → AMem → Prop, (∀ (σ : AMem), BX_LinkHouse_map_0 X E σ → X 0 [1] σ) → (∀ (s0 : Int) (σ : AMem), BX_LinkHouse_map_1 X E s0 σ → X 1 [1, s0] σ) → (∀ (x1 x2 : Int) (σ : AMem), BX_LinkHouse_map_2 X E x1 x2 σ → X 2 [1, x1, x2] σ) → (∀ (x2 s0 : Int) (σ : AMem), BX_LinkHouse_map_3 X E x2 s0 σ → X 3 [1, x2, s0] σ) → (∀ (x1 : Int) (σ : AMem), BX_LinkHouse_map_4 X E x1 σ → X 4 [1, x1] σ) → (∀ (x1 x2 : Int) (σ : AMem), BX_LinkHouse_map_5 X E x1 x2 σ → X 5 [1, x1, x2] σ) → (∀ (x2 x3 x4 : Int) (σ : AMem), BX_LinkHouse_map_6 X E x2 x3 x4 σ → X 6 [1, x2, x3, x4] σ) → (∀ (x2 s0 : Int) (σ : AMem), BX_LinkHouse_map_7 X E x2 s0 σ → X 7 [1, x2, s0] σ) → (∀ (x1 : Int) (σ : AMem), BX_LinkHouse_map_8 X E x1 σ → X 8 [1, x1] σ) → X 0 [1] σ) : TX_LinkHouse_map [1] σ E := fun X hX => h X (fun σ h => hX 0 [1] σ h) (fun s0 σ h => hX 1 [1, s0] σ h) (fun x1 x2 σ h => hX 2 [1, x1, x2] σ h) (fun x2 s0 σ h => hX 3 [1, x2, s0] σ h) (fun x1 σ h => hX 4 [1, x1] σ h) (fun x1 x2 σ h => hX 5 [1, x1, x2] σ h) (fun x2 x3 x4 σ h => hX 6 [1, x2, x3, x4] σ h) (fun x2 s0 σ h => hX 7 [1, x2, s0] σ h) (fun x1 σ h => hX 8 [1, x1] σ h)
def BX_LinkHouse_address_0 (X : Nat → List Int → AMem → Prop) (E : Nat → AMem → Prop) (σ : AMem) : Prop :=
  (if (σ 1 24) = 0 then
  X 1 [1, 1] σ
  else
  X 1 [1, 0] σ)
def BX_LinkHouse_address_1 (X : Nat → List Int → AMem → Prop) (E : Nat → AMem → Prop) (s0 : Int) (σ : AMem) : Prop :=
  (T_LinkHouse_ready [s0] σ (fun r1 σ2 => T_Names_findRow [16, 8276, (σ2 1 19)] σ2 (fun r3 σ4 => am_let (am_upd σ4 1 19 0) (fun σ5 => (if r3 = 0 then
  False
  else
  (if ly_k r3 = 23 then False else False))))) ∨ TX_LinkHouse_ready [s0] σ E)
def BX_LinkHouse_address : (Nat → List Int → AMem → Prop) → (Nat → AMem → Prop) → Nat → List Int → AMem → Prop := fun X E j v σ => am_sel [(am_v1 (fun t σ => if t = 1 then BX_LinkHouse_address_0 X E σ else False)), (am_v2 (fun t s0 σ => if t = 1 then BX_LinkHouse_address_1 X E s0 σ else False))] j v σ
def TX_LinkHouse_address : List Int → AMem → (Nat → AMem → Prop) → Prop := am_TX BX_LinkHouse_address
def ax_LinkHouse_address : AX := (173, (y_LinkHouse_address, prog_1_method_97_code, 2, (Option.some Jvm.ClassFile.FieldType.long)), [2], false, { frames := 9, cells := 1, slots := 6, locals := 248 }, TX_LinkHouse_address)
abbrev kx_LinkHouse_address : List AX := [ax_LinkHouse_ready]
set_option maxRecDepth 100000 in
theorem sx_LinkHouse_address : (am_chkR { frames := 9, cells := 1, slots := 6, locals := 248 } k_LinkHouse_address && am_chkRX { frames := 9, cells := 1, slots := 6, locals := 248 } kx_LinkHouse_address && am_chkN c_LinkHouse_address { frames := 9, cells := 1, slots := 6, locals := 248 } && c_LinkHouse_address.all (am_chk "LinkHouse" prog_1_method_97_code 2 (Option.some Jvm.ClassFile.FieldType.long) k_LinkHouse_address) && c_LinkHouse_address.all (am_chkX "LinkHouse" kx_LinkHouse_address) && c_LinkHouse_address.all (am_chkL m_LinkHouse_address) && decide (m_LinkHouse_address[0]? = some (0, am_argp 0 [2], [])) && decide (am_argn [2] ≤ 2)) = true := by decide +kernel
set_option maxHeartbeats 150000 in
set_option maxRecDepth 100000 in
theorem hx_LinkHouse_address : ∀ X E j v σ, BX_LinkHouse_address X E j v σ → am_atX GR k_LinkHouse_address kx_LinkHouse_address c_LinkHouse_address m_LinkHouse_address X E 30 j v σ := fun X E => am_sel_all (P := fun j v σ => am_atX GR k_LinkHouse_address kx_LinkHouse_address c_LinkHouse_address m_LinkHouse_address X E 30 j v σ) (⟨(am_v1_of (fun t σ h => am_tk (fun e => by subst e; exact fun h => h) h)), ⟨(am_v2_of (fun t s0 σ h => am_tk (fun e => by subst e; exact fun h => h) h)), trivial⟩⟩)
set_option maxRecDepth 100000 in
theorem SX_LinkHouse_address (l : Launch) (w : AW) (hfl : l.flags = pinnedFlags ++ [noTraceFlag]) : am_SX l w GR ax_LinkHouse_address := am_soundX (cal := k_LinkHouse_address) (calX := kx_LinkHouse_address) 173 y_LinkHouse_address prog_1_method_97_code 2 (Option.some Jvm.ClassFile.FieldType.long) [2] false { frames := 9, cells := 1, slots := 6, locals := 248 } BX_LinkHouse_address "LinkHouse" c_LinkHouse_address m_LinkHouse_address 30 ms_LinkHouse_address (by decide +kernel) rfl (am_cal (S_LinkHouse_ready l w) (am_cal (S_Names_findRow l w) (fun _ h => absurd h List.not_mem_nil))) (am_calX (SX_LinkHouse_ready l w hfl) (fun _ h => absurd h List.not_mem_nil)) sx_LinkHouse_address hx_LinkHouse_address
set_option maxRecDepth 100000 in
theorem ofX_LinkHouse_address {E : Nat → AMem → Prop} {σ : AMem} (h : ∀ X : Nat → List Int → AMem → Prop, (∀ (σ : AMem), BX_LinkHouse_address_0 X E σ → X 0 [1] σ) → (∀ (s0 : Int) (σ : AMem), BX_LinkHouse_address_1 X E s0 σ → X 1 [1, s0] σ) → X 0 [1] σ) : TX_LinkHouse_address [1] σ E := fun X hX => h X (fun σ h => hX 0 [1] σ h) (fun s0 σ h => hX 1 [1, s0] σ h)
def BX_LinkHouse_taken_0 (X : Nat → List Int → AMem → Prop) (E : Nat → AMem → Prop) (x1 x2 : Int) (σ : AMem) : Prop :=
  am_r32 ((σ 1 18) - 1) ∧ T_LinkHouse_in [x1, 0, ((σ 1 18) - 1)] σ (fun r1 σ2 => (if r1 = 0 then
  X 1 [1, x1, x2] σ2
  else
  0 ≤ x1 ∧ x1 < 8 ∧ (if ly_k (σ2 15 x1) = 26 then am_r32 ((am_rd GR σ2 (σ2 15 x1) 3) - 1) ∧ T_LinkHouse_in [x2, 0, ((am_rd GR σ2 (σ2 15 x1) 3) - 1)] σ2 (fun r3 σ4 => (if r3 = 0 then
    X 1 [1, x1, x2] σ4
    else
    X 2 [1, x1, x2, 1] σ4)) else False)))
def BX_LinkHouse_taken_1 (X : Nat → List Int → AMem → Prop) (E : Nat → AMem → Prop) (x1 x2 : Int) (σ : AMem) : Prop :=
  X 2 [1, x1, x2, 0] σ
def BX_LinkHouse_taken_2 (X : Nat → List Int → AMem → Prop) (E : Nat → AMem → Prop) (x1 x2 s0 : Int) (σ : AMem) : Prop :=
  (T_LinkHouse_there [s0] σ (fun r1 σ2 => 0 ≤ x1 ∧ x1 < 8 ∧ (if ly_k (σ2 15 x1) = 26 then (if ly_k (am_rd GR σ2 (σ2 15 x1) 1) = 5 then 0 ≤ x2 ∧ x2 < ly_l (am_rd GR σ2 (σ2 15 x1) 1) ∧ (if ly_k (σ2 (am_rd GR σ2 (σ2 15 x1) 1) x2) = 27 then (if (am_rd GR σ2 (σ2 (am_rd GR σ2 (σ2 15 x1) 1) x2) 6) = 0 ∨ (am_rd GR σ2 (σ2 (am_rd GR σ2 (σ2 15 x1) 1) x2) 6) = 1 then False else False) else False) else False) else False)) ∨ TX_LinkHouse_there [s0] σ E)
def BX_LinkHouse_taken : (Nat → List Int → AMem → Prop) → (Nat → AMem → Prop) → Nat → List Int → AMem → Prop := fun X E j v σ => am_sel [(am_v3 (fun t x1 x2 σ => if t = 1 then BX_LinkHouse_taken_0 X E x1 x2 σ else False)), (am_v3 (fun t x1 x2 σ => if t = 1 then BX_LinkHouse_taken_1 X E x1 x2 σ else False)), (am_v4 (fun t x1 x2 s0 σ => if t = 1 then BX_LinkHouse_taken_2 X E x1 x2 s0 σ else False))] j v σ
def TX_LinkHouse_taken : List Int → AMem → (Nat → AMem → Prop) → Prop := am_TX BX_LinkHouse_taken
def ax_LinkHouse_taken : AX := (174, (y_LinkHouse_taken, prog_1_method_98_code, 3, (Option.some Jvm.ClassFile.FieldType.boolean)), [2, 0, 0], false, { frames := 9, cells := 1, slots := 6, locals := 248 }, TX_LinkHouse_taken)
abbrev kx_LinkHouse_taken : List AX := [ax_LinkHouse_there]
set_option maxRecDepth 100000 in
theorem sx_LinkHouse_taken : (am_chkR { frames := 9, cells := 1, slots := 6, locals := 248 } k_LinkHouse_taken && am_chkRX { frames := 9, cells := 1, slots := 6, locals := 248 } kx_LinkHouse_taken && am_chkN c_LinkHouse_taken { frames := 9, cells := 1, slots := 6, locals := 248 } && c_LinkHouse_taken.all (am_chk "LinkHouse" prog_1_method_98_code 3 (Option.some Jvm.ClassFile.FieldType.boolean) k_LinkHouse_taken) && c_LinkHouse_taken.all (am_chkX "LinkHouse" kx_LinkHouse_taken) && c_LinkHouse_taken.all (am_chkL m_LinkHouse_taken) && decide (m_LinkHouse_taken[0]? = some (0, am_argp 0 [2, 0, 0], [])) && decide (am_argn [2, 0, 0] ≤ 3)) = true := by decide +kernel
set_option maxHeartbeats 150000 in
set_option maxRecDepth 100000 in
theorem hx_LinkHouse_taken : ∀ X E j v σ, BX_LinkHouse_taken X E j v σ → am_atX GR k_LinkHouse_taken kx_LinkHouse_taken c_LinkHouse_taken m_LinkHouse_taken X E 41 j v σ := fun X E => am_sel_all (P := fun j v σ => am_atX GR k_LinkHouse_taken kx_LinkHouse_taken c_LinkHouse_taken m_LinkHouse_taken X E 41 j v σ) (⟨(am_v3_of (fun t x1 x2 σ h => am_tk (fun e => by subst e; exact fun h => h) h)), ⟨(am_v3_of (fun t x1 x2 σ h => am_tk (fun e => by subst e; exact fun h => h) h)), ⟨(am_v4_of (fun t x1 x2 s0 σ h => am_tk (fun e => by subst e; exact fun h => h) h)), trivial⟩⟩⟩)
set_option maxRecDepth 100000 in
theorem SX_LinkHouse_taken (l : Launch) (w : AW) (hfl : l.flags = pinnedFlags ++ [noTraceFlag]) : am_SX l w GR ax_LinkHouse_taken := am_soundX (cal := k_LinkHouse_taken) (calX := kx_LinkHouse_taken) 174 y_LinkHouse_taken prog_1_method_98_code 3 (Option.some Jvm.ClassFile.FieldType.boolean) [2, 0, 0] false { frames := 9, cells := 1, slots := 6, locals := 248 } BX_LinkHouse_taken "LinkHouse" c_LinkHouse_taken m_LinkHouse_taken 41 ms_LinkHouse_taken (by decide +kernel) rfl (am_cal (S_LinkHouse_in l w) (am_cal (S_LinkHouse_there l w) (fun _ h => absurd h List.not_mem_nil))) (am_calX (SX_LinkHouse_there l w hfl) (fun _ h => absurd h List.not_mem_nil)) sx_LinkHouse_taken hx_LinkHouse_taken
set_option maxRecDepth 100000 in
theorem ofX_LinkHouse_taken {E : Nat → AMem → Prop} {x1 x2 : Int} {σ : AMem} (h : ∀ X : Nat → List Int → AMem → Prop, (∀ (x1 x2 : Int) (σ : AMem), BX_LinkHouse_taken_0 X E x1 x2 σ → X 0 [1, x1, x2] σ) → (∀ (x1 x2 : Int) (σ : AMem), BX_LinkHouse_taken_1 X E x1 x2 σ → X 1 [1, x1, x2] σ) → (∀ (x1 x2 s0 : Int) (σ : AMem), BX_LinkHouse_taken_2 X E x1 x2 s0 σ → X 2 [1, x1, x2, s0] σ) → X 0 [1, x1, x2] σ) : TX_LinkHouse_taken [1, x1, x2] σ E := fun X hX => h X (fun x1 x2 σ h => hX 0 [1, x1, x2] σ h) (fun x1 x2 σ h => hX 1 [1, x1, x2] σ h) (fun x1 x2 s0 σ h => hX 2 [1, x1, x2, s0] σ h)
def BX_LinkHouse_cause_0 (X : Nat → List Int → AMem → Prop) (E : Nat → AMem → Prop) (x1 x2 : Int) (σ : AMem) : Prop :=
  am_r32 ((σ 1 18) - 1) ∧ T_LinkHouse_in [x1, 0, ((σ 1 18) - 1)] σ (fun r1 σ2 => (if r1 = 0 then
  X 1 [1, x1, x2] σ2
  else
  0 ≤ x1 ∧ x1 < 8 ∧ (if ly_k (σ2 15 x1) = 26 then am_r32 ((am_rd GR σ2 (σ2 15 x1) 3) - 1) ∧ T_LinkHouse_in [x2, 0, ((am_rd GR σ2 (σ2 15 x1) 3) - 1)] σ2 (fun r3 σ4 => (if r3 = 0 then
    X 1 [1, x1, x2] σ4
    else
    X 2 [1, x1, x2, 1] σ4)) else False)))
def BX_LinkHouse_cause_1 (X : Nat → List Int → AMem → Prop) (E : Nat → AMem → Prop) (x1 x2 : Int) (σ : AMem) : Prop :=
  X 2 [1, x1, x2, 0] σ
def BX_LinkHouse_cause_2 (X : Nat → List Int → AMem → Prop) (E : Nat → AMem → Prop) (x1 x2 s0 : Int) (σ : AMem) : Prop :=
  (T_LinkHouse_there [s0] σ (fun r1 σ2 => 0 ≤ x1 ∧ x1 < 8 ∧ (if ly_k (σ2 15 x1) = 26 then (if ly_k (am_rd GR σ2 (σ2 15 x1) 1) = 5 then 0 ≤ x2 ∧ x2 < ly_l (am_rd GR σ2 (σ2 15 x1) 1) ∧ am_let (σ2 (am_rd GR σ2 (σ2 15 x1) 1) x2) (fun y3 => (if ly_k y3 = 27 then (if (am_rd GR σ2 y3 6) = 0 then
  False
  else
  (if ly_k y3 = 27 then (if 0 < (am_rd GR σ2 y3 31) then
    (if ly_k y3 = 27 then (if ly_k y3 = 27 then T_LinkHouse_outs [1, (am_rd GR σ2 y3 30), (am_rd GR σ2 y3 31)] σ2 (fun r4 σ5 => False) else False) else False)
    else
    False) else False)) else False)) else False) else False)) ∨ TX_LinkHouse_there [s0] σ E)
def BX_LinkHouse_cause : (Nat → List Int → AMem → Prop) → (Nat → AMem → Prop) → Nat → List Int → AMem → Prop := fun X E j v σ => am_sel [(am_v3 (fun t x1 x2 σ => if t = 1 then BX_LinkHouse_cause_0 X E x1 x2 σ else False)), (am_v3 (fun t x1 x2 σ => if t = 1 then BX_LinkHouse_cause_1 X E x1 x2 σ else False)), (am_v4 (fun t x1 x2 s0 σ => if t = 1 then BX_LinkHouse_cause_2 X E x1 x2 s0 σ else False))] j v σ
def TX_LinkHouse_cause : List Int → AMem → (Nat → AMem → Prop) → Prop := am_TX BX_LinkHouse_cause
def ax_LinkHouse_cause : AX := (175, (y_LinkHouse_cause, prog_1_method_99_code, 4, (Option.some Jvm.ClassFile.FieldType.int)), [2, 0, 0], false, { frames := 9, cells := 1, slots := 6, locals := 248 }, TX_LinkHouse_cause)
abbrev kx_LinkHouse_cause : List AX := [ax_LinkHouse_there]
set_option maxRecDepth 100000 in
theorem sx_LinkHouse_cause : (am_chkR { frames := 9, cells := 1, slots := 6, locals := 248 } k_LinkHouse_cause && am_chkRX { frames := 9, cells := 1, slots := 6, locals := 248 } kx_LinkHouse_cause && am_chkN c_LinkHouse_cause { frames := 9, cells := 1, slots := 6, locals := 248 } && c_LinkHouse_cause.all (am_chk "LinkHouse" prog_1_method_99_code 4 (Option.some Jvm.ClassFile.FieldType.int) k_LinkHouse_cause) && c_LinkHouse_cause.all (am_chkX "LinkHouse" kx_LinkHouse_cause) && c_LinkHouse_cause.all (am_chkL m_LinkHouse_cause) && decide (m_LinkHouse_cause[0]? = some (0, am_argp 0 [2, 0, 0], [])) && decide (am_argn [2, 0, 0] ≤ 4)) = true := by decide +kernel
set_option maxHeartbeats 150000 in
set_option maxRecDepth 100000 in
theorem hx_LinkHouse_cause : ∀ X E j v σ, BX_LinkHouse_cause X E j v σ → am_atX GR k_LinkHouse_cause kx_LinkHouse_cause c_LinkHouse_cause m_LinkHouse_cause X E 55 j v σ := fun X E => am_sel_all (P := fun j v σ => am_atX GR k_LinkHouse_cause kx_LinkHouse_cause c_LinkHouse_cause m_LinkHouse_cause X E 55 j v σ) (⟨(am_v3_of (fun t x1 x2 σ h => am_tk (fun e => by subst e; exact fun h => h) h)), ⟨(am_v3_of (fun t x1 x2 σ h => am_tk (fun e => by subst e; exact fun h => h) h)), ⟨(am_v4_of (fun t x1 x2 s0 σ h => am_tk (fun e => by subst e; exact fun h => h) h)), trivial⟩⟩⟩)
set_option maxRecDepth 100000 in
theorem SX_LinkHouse_cause (l : Launch) (w : AW) (hfl : l.flags = pinnedFlags ++ [noTraceFlag]) : am_SX l w GR ax_LinkHouse_cause := am_soundX (cal := k_LinkHouse_cause) (calX := kx_LinkHouse_cause) 175 y_LinkHouse_cause prog_1_method_99_code 4 (Option.some Jvm.ClassFile.FieldType.int) [2, 0, 0] false { frames := 9, cells := 1, slots := 6, locals := 248 } BX_LinkHouse_cause "LinkHouse" c_LinkHouse_cause m_LinkHouse_cause 55 ms_LinkHouse_cause (by decide +kernel) rfl (am_cal (S_LinkHouse_in l w) (am_cal (S_LinkHouse_there l w) (am_cal (S_LinkHouse_outs l w) (fun _ h => absurd h List.not_mem_nil)))) (am_calX (SX_LinkHouse_there l w hfl) (fun _ h => absurd h List.not_mem_nil)) sx_LinkHouse_cause hx_LinkHouse_cause
set_option maxRecDepth 100000 in
theorem ofX_LinkHouse_cause {E : Nat → AMem → Prop} {x1 x2 : Int} {σ : AMem} (h : ∀ X : Nat → List Int → AMem → Prop, (∀ (x1 x2 : Int) (σ : AMem), BX_LinkHouse_cause_0 X E x1 x2 σ → X 0 [1, x1, x2] σ) → (∀ (x1 x2 : Int) (σ : AMem), BX_LinkHouse_cause_1 X E x1 x2 σ → X 1 [1, x1, x2] σ) → (∀ (x1 x2 s0 : Int) (σ : AMem), BX_LinkHouse_cause_2 X E x1 x2 s0 σ → X 2 [1, x1, x2, s0] σ) → X 0 [1, x1, x2] σ) : TX_LinkHouse_cause [1, x1, x2] σ E := fun X hX => h X (fun x1 x2 σ h => hX 0 [1, x1, x2] σ h) (fun x1 x2 σ h => hX 1 [1, x1, x2] σ h) (fun x1 x2 s0 σ h => hX 2 [1, x1, x2, s0] σ h)
def BX_LinkHouse_section_0 (X : Nat → List Int → AMem → Prop) (E : Nat → AMem → Prop) (x1 x2 : Int) (σ : AMem) : Prop :=
  (if (σ 1 24) = 0 then
  X 1 [1, x1, x2, 1] σ
  else
  X 1 [1, x1, x2, 0] σ)
def BX_LinkHouse_section_1 (X : Nat → List Int → AMem → Prop) (E : Nat → AMem → Prop) (x1 x2 s0 : Int) (σ : AMem) : Prop :=
  (T_LinkHouse_ready [s0] σ (fun r1 σ2 => am_r32 ((σ2 1 22) - 1) ∧ T_LinkHouse_in [x1, 0, ((σ2 1 22) - 1)] σ2 (fun r3 σ4 => (if r3 = 0 then
  X 2 [1, x1, x2] σ4
  else
  T_LinkHouse_in [x2, 0, 4] σ4 (fun r5 σ6 => (if r5 = 0 then
    X 2 [1, x1, x2] σ6
    else
    X 3 [1, x1, x2, 1] σ6))))) ∨ TX_LinkHouse_ready [s0] σ E)
def BX_LinkHouse_section_2 (X : Nat → List Int → AMem → Prop) (E : Nat → AMem → Prop) (x1 x2 : Int) (σ : AMem) : Prop :=
  X 3 [1, x1, x2, 0] σ
def BX_LinkHouse_section_3 (X : Nat → List Int → AMem → Prop) (E : Nat → AMem → Prop) (x1 x2 s0 : Int) (σ : AMem) : Prop :=
  (T_LinkHouse_there [s0] σ (fun r1 σ2 => (if x2 = 0 then
  0 ≤ x1 ∧ x1 < 1536 ∧ False
  else
  (if x2 = 1 then
    0 ≤ x1 ∧ x1 < 1536 ∧ False
    else
    (if x2 = 2 then
      0 ≤ x1 ∧ x1 < 1536 ∧ False
      else
      (if x2 = 3 then
        0 ≤ x1 ∧ x1 < 1536 ∧ False
        else
        0 ≤ x1 ∧ x1 < 1536 ∧ False))))) ∨ TX_LinkHouse_there [s0] σ E)
def BX_LinkHouse_section : (Nat → List Int → AMem → Prop) → (Nat → AMem → Prop) → Nat → List Int → AMem → Prop := fun X E j v σ => am_sel [(am_v3 (fun t x1 x2 σ => if t = 1 then BX_LinkHouse_section_0 X E x1 x2 σ else False)), (am_v4 (fun t x1 x2 s0 σ => if t = 1 then BX_LinkHouse_section_1 X E x1 x2 s0 σ else False)), (am_v3 (fun t x1 x2 σ => if t = 1 then BX_LinkHouse_section_2 X E x1 x2 σ else False)), (am_v4 (fun t x1 x2 s0 σ => if t = 1 then BX_LinkHouse_section_3 X E x1 x2 s0 σ else False))] j v σ
def TX_LinkHouse_section : List Int → AMem → (Nat → AMem → Prop) → Prop := am_TX BX_LinkHouse_section
def ax_LinkHouse_section : AX := (176, (y_LinkHouse_section, prog_1_method_100_code, 3, (Option.some Jvm.ClassFile.FieldType.int)), [2, 0, 0], false, { frames := 9, cells := 1, slots := 6, locals := 248 }, TX_LinkHouse_section)
abbrev kx_LinkHouse_section : List AX := [ax_LinkHouse_ready, ax_LinkHouse_there]
set_option maxRecDepth 100000 in
theorem sx_LinkHouse_section : (am_chkR { frames := 9, cells := 1, slots := 6, locals := 248 } k_LinkHouse_section && am_chkRX { frames := 9, cells := 1, slots := 6, locals := 248 } kx_LinkHouse_section && am_chkN c_LinkHouse_section { frames := 9, cells := 1, slots := 6, locals := 248 } && c_LinkHouse_section.all (am_chk "LinkHouse" prog_1_method_100_code 3 (Option.some Jvm.ClassFile.FieldType.int) k_LinkHouse_section) && c_LinkHouse_section.all (am_chkX "LinkHouse" kx_LinkHouse_section) && c_LinkHouse_section.all (am_chkL m_LinkHouse_section) && decide (m_LinkHouse_section[0]? = some (0, am_argp 0 [2, 0, 0], [])) && decide (am_argn [2, 0, 0] ≤ 3)) = true := by decide +kernel
set_option maxHeartbeats 150000 in
set_option maxRecDepth 100000 in
theorem hx_LinkHouse_section : ∀ X E j v σ, BX_LinkHouse_section X E j v σ → am_atX GR k_LinkHouse_section kx_LinkHouse_section c_LinkHouse_section m_LinkHouse_section X E 68 j v σ := fun X E => am_sel_all (P := fun j v σ => am_atX GR k_LinkHouse_section kx_LinkHouse_section c_LinkHouse_section m_LinkHouse_section X E 68 j v σ) (⟨(am_v3_of (fun t x1 x2 σ h => am_tk (fun e => by subst e; exact fun h => h) h)), ⟨(am_v4_of (fun t x1 x2 s0 σ h => am_tk (fun e => by subst e; exact fun h => h) h)), ⟨(am_v3_of (fun t x1 x2 σ h => am_tk (fun e => by subst e; exact fun h => h) h)), ⟨(am_v4_of (fun t x1 x2 s0 σ h => am_tk (fun e => by subst e; exact fun h => h) h)), trivial⟩⟩⟩⟩)
set_option maxRecDepth 100000 in
theorem SX_LinkHouse_section (l : Launch) (w : AW) (hfl : l.flags = pinnedFlags ++ [noTraceFlag]) : am_SX l w GR ax_LinkHouse_section := am_soundX (cal := k_LinkHouse_section) (calX := kx_LinkHouse_section) 176 y_LinkHouse_section prog_1_method_100_code 3 (Option.some Jvm.ClassFile.FieldType.int) [2, 0, 0] false { frames := 9, cells := 1, slots := 6, locals := 248 } BX_LinkHouse_section "LinkHouse" c_LinkHouse_section m_LinkHouse_section 68 ms_LinkHouse_section (by decide +kernel) rfl (am_cal (S_LinkHouse_ready l w) (am_cal (S_LinkHouse_in l w) (am_cal (S_LinkHouse_there l w) (fun _ h => absurd h List.not_mem_nil)))) (am_calX (SX_LinkHouse_ready l w hfl) (am_calX (SX_LinkHouse_there l w hfl) (fun _ h => absurd h List.not_mem_nil))) sx_LinkHouse_section hx_LinkHouse_section
set_option maxRecDepth 100000 in
theorem ofX_LinkHouse_section {E : Nat → AMem → Prop} {x1 x2 : Int} {σ : AMem} (h : ∀ X : Nat → List Int → AMem → Prop, (∀ (x1 x2 : Int) (σ : AMem), BX_LinkHouse_section_0 X E x1 x2 σ → X 0 [1, x1, x2] σ) → (∀ (x1 x2 s0 : Int) (σ : AMem), BX_LinkHouse_section_1 X E x1 x2 s0 σ → X 1 [1, x1, x2, s0] σ) → (∀ (x1 x2 : Int) (σ : AMem), BX_LinkHouse_section_2 X E x1 x2 σ → X 2 [1, x1, x2] σ) → (∀ (x1 x2 s0 : Int) (σ : AMem), BX_LinkHouse_section_3 X E x1 x2 s0 σ → X 3 [1, x1, x2, s0] σ) → X 0 [1, x1, x2] σ) : TX_LinkHouse_section [1, x1, x2] σ E := fun X hX => h X (fun x1 x2 σ h => hX 0 [1, x1, x2] σ h) (fun x1 x2 s0 σ h => hX 1 [1, x1, x2, s0] σ h) (fun x1 x2 σ h => hX 2 [1, x1, x2] σ h) (fun x1 x2 s0 σ h => hX 3 [1, x1, x2, s0] σ h)
def BX_LinkHouse_place_0 (X : Nat → List Int → AMem → Prop) (E : Nat → AMem → Prop) (x1 : Int) (σ : AMem) : Prop :=
  (if (σ 1 24) = 0 then
  X 1 [1, x1, 1] σ
  else
  X 1 [1, x1, 0] σ)
def BX_LinkHouse_place_1 (X : Nat → List Int → AMem → Prop) (E : Nat → AMem → Prop) (x1 s0 : Int) (σ : AMem) : Prop :=
  (T_LinkHouse_ready [s0] σ (fun r1 σ2 => am_r32 ((σ2 1 22) - 1) ∧ T_LinkHouse_in [x1, 0, ((σ2 1 22) - 1)] σ2 (fun r3 σ4 => (T_LinkHouse_there [r3] σ4 (fun r5 σ6 => 0 ≤ x1 ∧ x1 < 1536 ∧ False) ∨ TX_LinkHouse_there [r3] σ4 E))) ∨ TX_LinkHouse_ready [s0] σ E)
def BX_LinkHouse_place : (Nat → List Int → AMem → Prop) → (Nat → AMem → Prop) → Nat → List Int → AMem → Prop := fun X E j v σ => am_sel [(am_v2 (fun t x1 σ => if t = 1 then BX_LinkHouse_place_0 X E x1 σ else False)), (am_v3 (fun t x1 s0 σ => if t = 1 then BX_LinkHouse_place_1 X E x1 s0 σ else False))] j v σ
def TX_LinkHouse_place : List Int → AMem → (Nat → AMem → Prop) → Prop := am_TX BX_LinkHouse_place
def ax_LinkHouse_place : AX := (177, (y_LinkHouse_place, prog_1_method_101_code, 2, (Option.some Jvm.ClassFile.FieldType.long)), [2, 0], false, { frames := 9, cells := 1, slots := 6, locals := 248 }, TX_LinkHouse_place)
abbrev kx_LinkHouse_place : List AX := [ax_LinkHouse_ready, ax_LinkHouse_there]
set_option maxRecDepth 100000 in
theorem sx_LinkHouse_place : (am_chkR { frames := 9, cells := 1, slots := 6, locals := 248 } k_LinkHouse_place && am_chkRX { frames := 9, cells := 1, slots := 6, locals := 248 } kx_LinkHouse_place && am_chkN c_LinkHouse_place { frames := 9, cells := 1, slots := 6, locals := 248 } && c_LinkHouse_place.all (am_chk "LinkHouse" prog_1_method_101_code 2 (Option.some Jvm.ClassFile.FieldType.long) k_LinkHouse_place) && c_LinkHouse_place.all (am_chkX "LinkHouse" kx_LinkHouse_place) && c_LinkHouse_place.all (am_chkL m_LinkHouse_place) && decide (m_LinkHouse_place[0]? = some (0, am_argp 0 [2, 0], [])) && decide (am_argn [2, 0] ≤ 2)) = true := by decide +kernel
set_option maxHeartbeats 150000 in
set_option maxRecDepth 100000 in
theorem hx_LinkHouse_place : ∀ X E j v σ, BX_LinkHouse_place X E j v σ → am_atX GR k_LinkHouse_place kx_LinkHouse_place c_LinkHouse_place m_LinkHouse_place X E 27 j v σ := fun X E => am_sel_all (P := fun j v σ => am_atX GR k_LinkHouse_place kx_LinkHouse_place c_LinkHouse_place m_LinkHouse_place X E 27 j v σ) (⟨(am_v2_of (fun t x1 σ h => am_tk (fun e => by subst e; exact fun h => h) h)), ⟨(am_v3_of (fun t x1 s0 σ h => am_tk (fun e => by subst e; exact fun h => h) h)), trivial⟩⟩)
set_option maxRecDepth 100000 in
theorem SX_LinkHouse_place (l : Launch) (w : AW) (hfl : l.flags = pinnedFlags ++ [noTraceFlag]) : am_SX l w GR ax_LinkHouse_place := am_soundX (cal := k_LinkHouse_place) (calX := kx_LinkHouse_place) 177 y_LinkHouse_place prog_1_method_101_code 2 (Option.some Jvm.ClassFile.FieldType.long) [2, 0] false { frames := 9, cells := 1, slots := 6, locals := 248 } BX_LinkHouse_place "LinkHouse" c_LinkHouse_place m_LinkHouse_place 27 ms_LinkHouse_place (by decide +kernel) rfl (am_cal (S_LinkHouse_ready l w) (am_cal (S_LinkHouse_in l w) (am_cal (S_LinkHouse_there l w) (fun _ h => absurd h List.not_mem_nil)))) (am_calX (SX_LinkHouse_ready l w hfl) (am_calX (SX_LinkHouse_there l w hfl) (fun _ h => absurd h List.not_mem_nil))) sx_LinkHouse_place hx_LinkHouse_place
set_option maxRecDepth 100000 in
theorem ofX_LinkHouse_place {E : Nat → AMem → Prop} {x1 : Int} {σ : AMem} (h : ∀ X : Nat → List Int → AMem → Prop, (∀ (x1 : Int) (σ : AMem), BX_LinkHouse_place_0 X E x1 σ → X 0 [1, x1] σ) → (∀ (x1 s0 : Int) (σ : AMem), BX_LinkHouse_place_1 X E x1 s0 σ → X 1 [1, x1, s0] σ) → X 0 [1, x1] σ) : TX_LinkHouse_place [1, x1] σ E := fun X hX => h X (fun x1 σ h => hX 0 [1, x1] σ h) (fun x1 s0 σ h => hX 1 [1, x1, s0] σ h)
def BX_LinkHouse_out_0 (X : Nat → List Int → AMem → Prop) (E : Nat → AMem → Prop) (x1 : Int) (σ : AMem) : Prop :=
  am_r32 ((σ 1 20) - 1) ∧ T_LinkHouse_in [x1, 0, ((σ 1 20) - 1)] σ (fun r1 σ2 => (T_LinkHouse_there [r1] σ2 (fun r3 σ4 => am_r32 ((σ4 1 20) - x1) ∧ am_r32 ((am_min ((σ4 1 20) - x1) 8) - 1) ∧ am_let ((am_min ((σ4 1 20) - x1) 8) - 1) (fun y5 => X 1 [1, x1, 0, y5] σ4)) ∨ TX_LinkHouse_there [r1] σ2 E))
def BX_LinkHouse_out_1 (X : Nat → List Int → AMem → Prop) (E : Nat → AMem → Prop) (x1 x2 x4 : Int) (σ : AMem) : Prop :=
  (if x4 < 0 then
  False
  else
  am_r32 (x1 + x4) ∧ (if ly_k (σ 1 6) = 2 then 0 ≤ (x1 + x4) ∧ (x1 + x4) < ly_l (σ 1 6) ∧ am_let (l_or (l_shl x2 8) (l_and (σ (σ 1 6) (x1 + x4)) 255)) (fun y1 => am_r32 (x4 + (-1)) ∧ X 1 [1, x1, y1, (x4 + (-1))] σ) else False))
def BX_LinkHouse_out : (Nat → List Int → AMem → Prop) → (Nat → AMem → Prop) → Nat → List Int → AMem → Prop := fun X E j v σ => am_sel [(am_v2 (fun t x1 σ => if t = 1 then BX_LinkHouse_out_0 X E x1 σ else False)), (am_v4 (fun t x1 x2 x4 σ => if t = 1 then BX_LinkHouse_out_1 X E x1 x2 x4 σ else False))] j v σ
def TX_LinkHouse_out : List Int → AMem → (Nat → AMem → Prop) → Prop := am_TX BX_LinkHouse_out
def ax_LinkHouse_out : AX := (178, (y_LinkHouse_out, prog_1_method_105_code, 5, (Option.some Jvm.ClassFile.FieldType.long)), [2, 0], false, { frames := 9, cells := 1, slots := 6, locals := 248 }, TX_LinkHouse_out)
abbrev kx_LinkHouse_out : List AX := [ax_LinkHouse_there]
set_option maxRecDepth 100000 in
theorem sx_LinkHouse_out : (am_chkR { frames := 9, cells := 1, slots := 6, locals := 248 } k_LinkHouse_out && am_chkRX { frames := 9, cells := 1, slots := 6, locals := 248 } kx_LinkHouse_out && am_chkN c_LinkHouse_out { frames := 9, cells := 1, slots := 6, locals := 248 } && c_LinkHouse_out.all (am_chk "LinkHouse" prog_1_method_105_code 5 (Option.some Jvm.ClassFile.FieldType.long) k_LinkHouse_out) && c_LinkHouse_out.all (am_chkX "LinkHouse" kx_LinkHouse_out) && c_LinkHouse_out.all (am_chkL m_LinkHouse_out) && decide (m_LinkHouse_out[0]? = some (0, am_argp 0 [2, 0], [])) && decide (am_argn [2, 0] ≤ 5)) = true := by decide +kernel
set_option maxHeartbeats 150000 in
set_option maxRecDepth 100000 in
theorem hx_LinkHouse_out : ∀ X E j v σ, BX_LinkHouse_out X E j v σ → am_atX GR k_LinkHouse_out kx_LinkHouse_out c_LinkHouse_out m_LinkHouse_out X E 46 j v σ := fun X E => am_sel_all (P := fun j v σ => am_atX GR k_LinkHouse_out kx_LinkHouse_out c_LinkHouse_out m_LinkHouse_out X E 46 j v σ) (⟨(am_v2_of (fun t x1 σ h => am_tk (fun e => by subst e; exact fun h => h) h)), ⟨(am_v4_of (fun t x1 x2 x4 σ h => am_tk (fun e => by subst e; exact fun h => h) h)), trivial⟩⟩)
set_option maxRecDepth 100000 in
theorem SX_LinkHouse_out (l : Launch) (w : AW) (hfl : l.flags = pinnedFlags ++ [noTraceFlag]) : am_SX l w GR ax_LinkHouse_out := am_soundX (cal := k_LinkHouse_out) (calX := kx_LinkHouse_out) 178 y_LinkHouse_out prog_1_method_105_code 5 (Option.some Jvm.ClassFile.FieldType.long) [2, 0] false { frames := 9, cells := 1, slots := 6, locals := 248 } BX_LinkHouse_out "LinkHouse" c_LinkHouse_out m_LinkHouse_out 46 ms_LinkHouse_out (by decide +kernel) rfl (am_cal (S_LinkHouse_in l w) (am_cal (S_LinkHouse_there l w) (fun _ h => absurd h List.not_mem_nil))) (am_calX (SX_LinkHouse_there l w hfl) (fun _ h => absurd h List.not_mem_nil)) sx_LinkHouse_out hx_LinkHouse_out
set_option maxRecDepth 100000 in
theorem ofX_LinkHouse_out {E : Nat → AMem → Prop} {x1 : Int} {σ : AMem} (h : ∀ X : Nat → List Int → AMem → Prop, (∀ (x1 : Int) (σ : AMem), BX_LinkHouse_out_0 X E x1 σ → X 0 [1, x1] σ) → (∀ (x1 x2 x4 : Int) (σ : AMem), BX_LinkHouse_out_1 X E x1 x2 x4 σ → X 1 [1, x1, x2, x4] σ) → X 0 [1, x1] σ) : TX_LinkHouse_out [1, x1] σ E := fun X hX => h X (fun x1 σ h => hX 0 [1, x1] σ h) (fun x1 x2 x4 σ h => hX 1 [1, x1, x2, x4] σ h)
def BX_LinkHouse_look_0 (X : Nat → List Int → AMem → Prop) (E : Nat → AMem → Prop) (x1 : Int) (σ : AMem) : Prop :=
  T_LinkHouse_in [x1, 0, 18] σ (fun r1 σ2 => (T_LinkHouse_need [r1] σ2 (fun r3 σ4 => (if x1 = 0 then False
  else (if x1 = 1 then False
  else (if x1 = 2 then False
  else (if x1 = 3 then False
  else (if x1 = 4 then False
  else (if x1 = 5 then False
  else (if x1 = 6 then (if (σ4 1 24) < 0 then
    False
    else
    False)
  else (if x1 = 7 then False
  else (if x1 = 8 then (if (σ4 1 24) < 0 then
    False
    else
    False)
  else (if x1 = 9 then False
  else (if x1 = 10 then False
  else (if x1 = 11 then False
  else (if x1 = 12 then False
  else (if x1 = 13 then False
  else (if x1 = 14 then False
  else (if x1 = 15 then (if (σ4 1 24) = 0 then
    False
    else
    False)
  else (if x1 = 16 then False
  else (if x1 = 17 then False
  else False))))))))))))))))))) ∨ TX_LinkHouse_need [r1] σ2 E))
def BX_LinkHouse_look : (Nat → List Int → AMem → Prop) → (Nat → AMem → Prop) → Nat → List Int → AMem → Prop := fun X E j v σ => am_sel [(am_v2 (fun t x1 σ => if t = 1 then BX_LinkHouse_look_0 X E x1 σ else False))] j v σ
def TX_LinkHouse_look : List Int → AMem → (Nat → AMem → Prop) → Prop := am_TX BX_LinkHouse_look
def ax_LinkHouse_look : AX := (179, (y_LinkHouse_look, prog_1_method_106_code, 2, (Option.some Jvm.ClassFile.FieldType.long)), [2, 0], false, { frames := 9, cells := 1, slots := 6, locals := 248 }, TX_LinkHouse_look)
abbrev kx_LinkHouse_look : List AX := [ax_LinkHouse_need]
set_option maxRecDepth 100000 in
theorem sx_LinkHouse_look : (am_chkR { frames := 9, cells := 1, slots := 6, locals := 248 } k_LinkHouse_look && am_chkRX { frames := 9, cells := 1, slots := 6, locals := 248 } kx_LinkHouse_look && am_chkN c_LinkHouse_look { frames := 9, cells := 1, slots := 6, locals := 248 } && c_LinkHouse_look.all (am_chk "LinkHouse" prog_1_method_106_code 2 (Option.some Jvm.ClassFile.FieldType.long) k_LinkHouse_look) && c_LinkHouse_look.all (am_chkX "LinkHouse" kx_LinkHouse_look) && c_LinkHouse_look.all (am_chkL m_LinkHouse_look) && decide (m_LinkHouse_look[0]? = some (0, am_argp 0 [2, 0], [])) && decide (am_argn [2, 0] ≤ 2)) = true := by decide +kernel
set_option maxHeartbeats 150000 in
set_option maxRecDepth 100000 in
theorem hx_LinkHouse_look : ∀ X E j v σ, BX_LinkHouse_look X E j v σ → am_atX GR k_LinkHouse_look kx_LinkHouse_look c_LinkHouse_look m_LinkHouse_look X E 106 j v σ := fun X E => am_sel_all (P := fun j v σ => am_atX GR k_LinkHouse_look kx_LinkHouse_look c_LinkHouse_look m_LinkHouse_look X E 106 j v σ) (⟨(am_v2_of (fun t x1 σ h => am_tk (fun e => by subst e; exact fun h => h) h)), trivial⟩)
set_option maxRecDepth 100000 in
theorem SX_LinkHouse_look (l : Launch) (w : AW) (hfl : l.flags = pinnedFlags ++ [noTraceFlag]) : am_SX l w GR ax_LinkHouse_look := am_soundX (cal := k_LinkHouse_look) (calX := kx_LinkHouse_look) 179 y_LinkHouse_look prog_1_method_106_code 2 (Option.some Jvm.ClassFile.FieldType.long) [2, 0] false { frames := 9, cells := 1, slots := 6, locals := 248 } BX_LinkHouse_look "LinkHouse" c_LinkHouse_look m_LinkHouse_look 106 ms_LinkHouse_look (by decide +kernel) rfl (am_cal (S_LinkHouse_in l w) (am_cal (S_LinkHouse_need l w) (fun _ h => absurd h List.not_mem_nil))) (am_calX (SX_LinkHouse_need l w hfl) (fun _ h => absurd h List.not_mem_nil)) sx_LinkHouse_look hx_LinkHouse_look
set_option maxRecDepth 100000 in
theorem ofX_LinkHouse_look {E : Nat → AMem → Prop} {x1 : Int} {σ : AMem} (h : ∀ X : Nat → List Int → AMem → Prop, (∀ (x1 : Int) (σ : AMem), BX_LinkHouse_look_0 X E x1 σ → X 0 [1, x1] σ) → X 0 [1, x1] σ) : TX_LinkHouse_look [1, x1] σ E := fun X hX => h X (fun x1 σ h => hX 0 [1, x1] σ h)
