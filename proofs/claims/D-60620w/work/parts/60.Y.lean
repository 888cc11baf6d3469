/-! the law's wrappers: printed by gen/y.py -/
abbrev y_Law_feed : MethodName := ⟨"LinkHouseLaw", "feed", "(LLinkHouse;IJ[J)I"⟩
def c_Law_feed : List aE := [(0, 0, .aload 4, 2, 0, 0, []), (2, 0, .iconst 0, 1, 0, 0, []), (3, 0, .aload_n 0, 1, 0, 0, []), (4, 0, .iload_n 1, 1, 0, 0, []), (5, 0, .lload_n 2, 1, 0, 0, []), (6, 0, .invokevirtual 7, 3, 139, 0, [5088]), (9, 0, .i2l, 1, 0, 0, []), (10, 0, .lastore, 1, 0, 0, []), (11, 0, .goto 11, 3, 0, 0, []), (14, 0, .astore 5, 2, 0, 0, []), (16, 0, .iconst 1, 1, 0, 0, []), (17, 0, .ireturn, 1, 0, 0, []), (18, 0, .astore 5, 2, 0, 0, []), (20, 0, .iconst 2, 1, 0, 0, []), (21, 0, .ireturn, 1, 0, 0, []), (22, 0, .iconst 0, 1, 0, 0, []), (23, 0, .ireturn, 1, 0, 0, [])]
def TY_Law_feed : List Int → AMem → (Int → AMem → Prop) → Prop := am_TY GR [a_LinkHouse_feed] [ax_LinkHouse_feed] c_Law_feed [(0, 11, 14, 13), (0, 11, 18, 15)] [1, 2] [2, 0, 1, 2] 22
def ay_Law_feed : AY := (500, (y_Law_feed, method_3_code, 6), [(0, 11, 14, 13), (0, 11, 18, 15)], [2, 0, 1, 2], { frames := 10, cells := 1, slots := 6, locals := 280 }, TY_Law_feed)
set_option maxRecDepth 100000 in
theorem my_Law_feed : am_cw ay_Law_feed ∈ am_tbl ∧ Cond.initialized y_Law_feed.cls ∈ am_tbl ∧ Cond.static y_Law_feed ∈ am_tbl ∧ (parseMethodDescriptor y_Law_feed.desc).map (fun d => d.parameters.length) = some 4 := ⟨am_in_tbl (am_wd_in (show am_wd 5085 = some _ from rfl)) rfl, am_in_tbl (am_wd_in (show am_wd 0 = some _ from rfl)) rfl, am_in_tbl (am_wd_in (show am_wd 5084 = some _ from rfl)) rfl, by decide +kernel⟩
set_option maxRecDepth 100000 in
theorem sy_Law_feed : (am_chkR { frames := 10, cells := 1, slots := 6, locals := 280 } [a_LinkHouse_feed] && am_chkRX { frames := 10, cells := 1, slots := 6, locals := 280 } [ax_LinkHouse_feed] && decide (1 ≤ ({ frames := 10, cells := 1, slots := 6, locals := 280 } : Room).cells ∧ 6 ≤ ({ frames := 10, cells := 1, slots := 6, locals := 280 } : Room).slots) && c_Law_feed.all (fun e => !am_isS e.2.2.1) && c_Law_feed.all (am_chk "LinkHouseLaw" method_3_code 6 (some .int) [a_LinkHouse_feed]) && c_Law_feed.all (am_chkX "LinkHouseLaw" [ax_LinkHouse_feed]) && (am_pcs c_Law_feed).all (fun pc => am_chkH "LinkHouseLaw" pc [(0, 11, 14, 13), (0, 11, 18, 15)] [1, 2]) && am_kinds [1, 2] && decide (am_argn [2, 0, 1, 2] ≤ 6)) = true := by decide +kernel
set_option maxRecDepth 100000 in
theorem SY_Law_feed (l : Launch) (w : AW) (hfl : l.flags = pinnedFlags ++ [noTraceFlag]) : am_SY l w GR ay_Law_feed := am_soundY (cal := [a_LinkHouse_feed]) (calX := [ax_LinkHouse_feed]) 500 y_Law_feed method_3_code 6 [(0, 11, 14, 13), (0, 11, 18, 15)] [1, 2] [2, 0, 1, 2] { frames := 10, cells := 1, slots := 6, locals := 280 } "LinkHouseLaw" c_Law_feed 22 my_Law_feed (by decide +kernel) rfl (am_cal (S_LinkHouse_feed l w) (fun _ h => absurd h List.not_mem_nil)) (am_calX (SX_LinkHouse_feed l w hfl) (fun _ h => absurd h List.not_mem_nil)) sy_Law_feed
set_option maxRecDepth 100000 in
theorem of_Law_feed {Q : Int → AMem → Prop} {x1 x2 : Int} {σ : AMem} (h : T_LinkHouse_feed [1, x1, x2] σ (fun r1 σ1 => ((0 : Int) ≤ 0 ∧ (0 : Int) < 1 ∧ am_let (am_upd σ1 9878 0 r1) (fun σ2 => Q 0 σ2))) ∨ TX_LinkHouse_feed [1, x1, x2] σ (fun k σ' => (k = 1 ∧ Q 1 σ') ∨ (k = 2 ∧ Q 2 σ'))) : TY_Law_feed [1, x1, x2, 9878] σ Q := by
  rcases h with h | h
  · exact Or.inl h
  · refine Or.inr ⟨_, h, fun k σ' hk => ?_⟩
    rcases hk with ⟨rfl, hk⟩ | ⟨rfl, hk⟩
    · exact ⟨14, rfl, fun a' _ => hk⟩
    · exact ⟨18, rfl, fun a' _ => hk⟩
abbrev y_Law_add : MethodName := ⟨"LinkHouseLaw", "add", "(LLinkHouse;[J)I"⟩
def c_Law_add : List aE := [(0, 0, .aload_n 1, 1, 0, 0, []), (1, 0, .iconst 0, 1, 0, 0, []), (2, 0, .aload_n 0, 1, 0, 0, []), (3, 0, .invokevirtual 17, 3, 155, 0, [5182]), (6, 0, .i2l, 1, 0, 0, []), (7, 0, .lastore, 1, 0, 0, []), (8, 0, .goto 6, 3, 0, 0, []), (11, 0, .astore_n 2, 1, 0, 0, []), (12, 0, .iconst 1, 1, 0, 0, []), (13, 0, .ireturn, 1, 0, 0, []), (14, 0, .iconst 0, 1, 0, 0, []), (15, 0, .ireturn, 1, 0, 0, [])]
def TY_Law_add : List Int → AMem → (Int → AMem → Prop) → Prop := am_TY GR [a_LinkHouse_add] [ax_LinkHouse_add] c_Law_add [(0, 8, 11, 15)] [2] [2, 2] 17
def ay_Law_add : AY := (501, (y_Law_add, method_4_code, 3), [(0, 8, 11, 15)], [2, 2], { frames := 10, cells := 1, slots := 6, locals := 277 }, TY_Law_add)
set_option maxRecDepth 100000 in
theorem my_Law_add : am_cw ay_Law_add ∈ am_tbl ∧ Cond.initialized y_Law_add.cls ∈ am_tbl ∧ Cond.static y_Law_add ∈ am_tbl ∧ (parseMethodDescriptor y_Law_add.desc).map (fun d => d.parameters.length) = some 2 := ⟨am_in_tbl (am_wd_in (show am_wd 5181 = some _ from rfl)) rfl, am_in_tbl (am_wd_in (show am_wd 0 = some _ from rfl)) rfl, am_in_tbl (am_wd_in (show am_wd 5180 = some _ from rfl)) rfl, by decide +kernel⟩
set_option maxRecDepth 100000 in
theorem sy_Law_add : (am_chkR { frames := 10, cells := 1, slots := 6, locals := 277 } [a_LinkHouse_add] && am_chkRX { frames := 10, cells := 1, slots := 6, locals := 277 } [ax_LinkHouse_add] && decide (1 ≤ ({ frames := 10, cells := 1, slots := 6, locals := 277 } : Room).cells ∧ 6 ≤ ({ frames := 10, cells := 1, slots := 6, locals := 277 } : Room).slots) && c_Law_add.all (fun e => !am_isS e.2.2.1) && c_Law_add.all (am_chk "LinkHouseLaw" method_4_code 3 (some .int) [a_LinkHouse_add]) && c_Law_add.all (am_chkX "LinkHouseLaw" [ax_LinkHouse_add]) && (am_pcs c_Law_add).all (fun pc => am_chkH "LinkHouseLaw" pc [(0, 8, 11, 15)] [2]) && am_kinds [2] && decide (am_argn [2, 2] ≤ 3)) = true := by decide +kernel
set_option maxRecDepth 100000 in
theorem SY_Law_add (l : Launch) (w : AW) (hfl : l.flags = pinnedFlags ++ [noTraceFlag]) : am_SY l w GR ay_Law_add := am_soundY (cal := [a_LinkHouse_add]) (calX := [ax_LinkHouse_add]) 501 y_Law_add method_4_code 3 [(0, 8, 11, 15)] [2] [2, 2] { frames := 10, cells := 1, slots := 6, locals := 277 } "LinkHouseLaw" c_Law_add 17 my_Law_add (by decide +kernel) rfl (am_cal (S_LinkHouse_add l w) (fun _ h => absurd h List.not_mem_nil)) (am_calX (SX_LinkHouse_add l w hfl) (fun _ h => absurd h List.not_mem_nil)) sy_Law_add
set_option maxRecDepth 100000 in
theorem of_Law_add {Q : Int → AMem → Prop} {σ : AMem} (h : T_LinkHouse_add [1] σ (fun r1 σ1 => ((0 : Int) ≤ 0 ∧ (0 : Int) < 1 ∧ am_let (am_upd σ1 9878 0 r1) (fun σ2 => Q 0 σ2))) ∨ TX_LinkHouse_add [1] σ (fun k σ' => (k = 2 ∧ Q 1 σ'))) : TY_Law_add [1, 9878] σ Q := by
  rcases h with h | h
  · exact Or.inl h
  · refine Or.inr ⟨_, h, fun k σ' hk => ?_⟩
    rcases hk with ⟨rfl, hk⟩
    · exact ⟨11, rfl, fun a' _ => hk⟩
abbrev y_Law_drop : MethodName := ⟨"LinkHouseLaw", "drop", "(LLinkHouse;[J)I"⟩
def c_Law_drop : List aE := [(0, 0, .aload_n 1, 1, 0, 0, []), (1, 0, .iconst 0, 1, 0, 0, []), (2, 0, .aload_n 0, 1, 0, 0, []), (3, 0, .invokevirtual 21, 3, 156, 0, [6030]), (6, 0, .i2l, 1, 0, 0, []), (7, 0, .lastore, 1, 0, 0, []), (8, 0, .goto 6, 3, 0, 0, []), (11, 0, .astore_n 2, 1, 0, 0, []), (12, 0, .iconst 1, 1, 0, 0, []), (13, 0, .ireturn, 1, 0, 0, []), (14, 0, .iconst 0, 1, 0, 0, []), (15, 0, .ireturn, 1, 0, 0, [])]
def TY_Law_drop : List Int → AMem → (Int → AMem → Prop) → Prop := am_TY GR [a_LinkHouse_drop] [ax_LinkHouse_drop] c_Law_drop [(0, 8, 11, 15)] [2] [2, 2] 17
def ay_Law_drop : AY := (502, (y_Law_drop, method_5_code, 3), [(0, 8, 11, 15)], [2, 2], { frames := 10, cells := 1, slots := 6, locals := 276 }, TY_Law_drop)
set_option maxRecDepth 100000 in
theorem my_Law_drop : am_cw ay_Law_drop ∈ am_tbl ∧ Cond.initialized y_Law_drop.cls ∈ am_tbl ∧ Cond.static y_Law_drop ∈ am_tbl ∧ (parseMethodDescriptor y_Law_drop.desc).map (fun d => d.parameters.length) = some 2 := ⟨am_in_tbl (am_wd_in (show am_wd 6029 = some _ from rfl)) rfl, am_in_tbl (am_wd_in (show am_wd 0 = some _ from rfl)) rfl, am_in_tbl (am_wd_in (show am_wd 6028 = some _ from rfl)) rfl, by decide +kernel⟩
set_option maxRecDepth 100000 in
theorem sy_Law_drop : (am_chkR { frames := 10, cells := 1, slots := 6, locals := 276 } [a_LinkHouse_drop] && am_chkRX { frames := 10, cells := 1, slots := 6, locals := 276 } [ax_LinkHouse_drop] && decide (1 ≤ ({ frames := 10, cells := 1, slots := 6, locals := 276 } : Room).cells ∧ 6 ≤ ({ frames := 10, cells := 1, slots := 6, locals := 276 } : Room).slots) && c_Law_drop.all (fun e => !am_isS e.2.2.1) && c_Law_drop.all (am_chk "LinkHouseLaw" method_5_code 3 (some .int) [a_LinkHouse_drop]) && c_Law_drop.all (am_chkX "LinkHouseLaw" [ax_LinkHouse_drop]) && (am_pcs c_Law_drop).all (fun pc => am_chkH "LinkHouseLaw" pc [(0, 8, 11, 15)] [2]) && am_kinds [2] && decide (am_argn [2, 2] ≤ 3)) = true := by decide +kernel
set_option maxRecDepth 100000 in
theorem SY_Law_drop (l : Launch) (w : AW) (hfl : l.flags = pinnedFlags ++ [noTraceFlag]) : am_SY l w GR ay_Law_drop := am_soundY (cal := [a_LinkHouse_drop]) (calX := [ax_LinkHouse_drop]) 502 y_Law_drop method_5_code 3 [(0, 8, 11, 15)] [2] [2, 2] { frames := 10, cells := 1, slots := 6, locals := 276 } "LinkHouseLaw" c_Law_drop 17 my_Law_drop (by decide +kernel) rfl (am_cal (S_LinkHouse_drop l w) (fun _ h => absurd h List.not_mem_nil)) (am_calX (SX_LinkHouse_drop l w hfl) (fun _ h => absurd h List.not_mem_nil)) sy_Law_drop
set_option maxRecDepth 100000 in
theorem of_Law_drop {Q : Int → AMem → Prop} {σ : AMem} (h : T_LinkHouse_drop [1] σ (fun r1 σ1 => ((0 : Int) ≤ 0 ∧ (0 : Int) < 1 ∧ am_let (am_upd σ1 9878 0 r1) (fun σ2 => Q 0 σ2))) ∨ TX_LinkHouse_drop [1] σ (fun k σ' => (k = 2 ∧ Q 1 σ'))) : TY_Law_drop [1, 9878] σ Q := by
  rcases h with h | h
  · exact Or.inl h
  · refine Or.inr ⟨_, h, fun k σ' hk => ?_⟩
    rcases hk with ⟨rfl, hk⟩
    · exact ⟨11, rfl, fun a' _ => hk⟩
abbrev y_Law_give : MethodName := ⟨"LinkHouseLaw", "give", "(LLinkHouse;J[J)I"⟩
def c_Law_give : List aE := [(0, 0, .aload_n 3, 1, 0, 0, []), (1, 0, .iconst 0, 1, 0, 0, []), (2, 0, .aload_n 0, 1, 0, 0, []), (3, 0, .lload_n 1, 1, 0, 0, []), (4, 0, .invokevirtual 24, 3, 159, 0, [6037]), (7, 0, .i2l, 1, 0, 0, []), (8, 0, .lastore, 1, 0, 0, []), (9, 0, .goto 11, 3, 0, 0, []), (12, 0, .astore 4, 2, 0, 0, []), (14, 0, .iconst 1, 1, 0, 0, []), (15, 0, .ireturn, 1, 0, 0, []), (16, 0, .astore 4, 2, 0, 0, []), (18, 0, .iconst 2, 1, 0, 0, []), (19, 0, .ireturn, 1, 0, 0, []), (20, 0, .iconst 0, 1, 0, 0, []), (21, 0, .ireturn, 1, 0, 0, [])]
def TY_Law_give : List Int → AMem → (Int → AMem → Prop) → Prop := am_TY GR [a_LinkHouse_give] [ax_LinkHouse_give] c_Law_give [(0, 9, 12, 13), (0, 9, 16, 15)] [1, 2] [2, 1, 2] 21
def ay_Law_give : AY := (503, (y_Law_give, method_6_code, 5), [(0, 9, 12, 13), (0, 9, 16, 15)], [2, 1, 2], { frames := 11, cells := 1, slots := 6, locals := 310 }, TY_Law_give)
set_option maxRecDepth 100000 in
theorem my_Law_give : am_cw ay_Law_give ∈ am_tbl ∧ Cond.initialized y_Law_give.cls ∈ am_tbl ∧ Cond.static y_Law_give ∈ am_tbl ∧ (parseMethodDescriptor y_Law_give.desc).map (fun d => d.parameters.length) = some 3 := ⟨am_in_tbl (am_wd_in (show am_wd 6036 = some _ from rfl)) rfl, am_in_tbl (am_wd_in (show am_wd 0 = some _ from rfl)) rfl, am_in_tbl (am_wd_in (show am_wd 6035 = some _ from rfl)) rfl, by decide +kernel⟩
set_option maxRecDepth 100000 in
theorem sy_Law_give : (am_chkR { frames := 11, cells := 1, slots := 6, locals := 310 } [a_LinkHouse_give] && am_chkRX { frames := 11, cells := 1, slots := 6, locals := 310 } [ax_LinkHouse_give] && decide (1 ≤ ({ frames := 11, cells := 1, slots := 6, locals := 310 } : Room).cells ∧ 6 ≤ ({ frames := 11, cells := 1, slots := 6, locals := 310 } : Room).slots) && c_Law_give.all (fun e => !am_isS e.2.2.1) && c_Law_give.all (am_chk "LinkHouseLaw" method_6_code 5 (some .int) [a_LinkHouse_give]) && c_Law_give.all (am_chkX "LinkHouseLaw" [ax_LinkHouse_give]) && (am_pcs c_Law_give).all (fun pc => am_chkH "LinkHouseLaw" pc [(0, 9, 12, 13), (0, 9, 16, 15)] [1, 2]) && am_kinds [1, 2] && decide (am_argn [2, 1, 2] ≤ 5)) = true := by decide +kernel
set_option maxRecDepth 100000 in
theorem SY_Law_give (l : Launch) (w : AW) (hfl : l.flags = pinnedFlags ++ [noTraceFlag]) : am_SY l w GR ay_Law_give := am_soundY (cal := [a_LinkHouse_give]) (calX := [ax_LinkHouse_give]) 503 y_Law_give method_6_code 5 [(0, 9, 12, 13), (0, 9, 16, 15)] [1, 2] [2, 1, 2] { frames := 11, cells := 1, slots := 6, locals := 310 } "LinkHouseLaw" c_Law_give 21 my_Law_give (by decide +kernel) rfl (am_cal (S_LinkHouse_give l w) (fun _ h => absurd h List.not_mem_nil)) (am_calX (SX_LinkHouse_give l w hfl) (fun _ h => absurd h List.not_mem_nil)) sy_Law_give
set_option maxRecDepth 100000 in
theorem of_Law_give {Q : Int → AMem → Prop} {x1 : Int} {σ : AMem} (h : T_LinkHouse_give [1, x1] σ (fun r1 σ1 => ((0 : Int) ≤ 0 ∧ (0 : Int) < 1 ∧ am_let (am_upd σ1 9878 0 r1) (fun σ2 => Q 0 σ2))) ∨ TX_LinkHouse_give [1, x1] σ (fun k σ' => (k = 1 ∧ Q 1 σ') ∨ (k = 2 ∧ Q 2 σ'))) : TY_Law_give [1, x1, 9878] σ Q := by
  rcases h with h | h
  · exact Or.inl h
  · refine Or.inr ⟨_, h, fun k σ' hk => ?_⟩
    rcases hk with ⟨rfl, hk⟩ | ⟨rfl, hk⟩
    · exact ⟨12, rfl, fun a' _ => hk⟩
    · exact ⟨16, rfl, fun a' _ => hk⟩
abbrev y_Law_wish : MethodName := ⟨"LinkHouseLaw", "wish", "(LLinkHouse;[J)I"⟩
def c_Law_wish : List aE := [(0, 0, .aload_n 1, 1, 0, 0, []), (1, 0, .iconst 0, 1, 0, 0, []), (2, 0, .aload_n 0, 1, 0, 0, []), (3, 0, .invokevirtual 28, 3, 160, 0, [6051]), (6, 0, .i2l, 1, 0, 0, []), (7, 0, .lastore, 1, 0, 0, []), (8, 0, .goto 9, 3, 0, 0, []), (11, 0, .astore_n 2, 1, 0, 0, []), (12, 0, .iconst 1, 1, 0, 0, []), (13, 0, .ireturn, 1, 0, 0, []), (14, 0, .astore_n 2, 1, 0, 0, []), (15, 0, .iconst 2, 1, 0, 0, []), (16, 0, .ireturn, 1, 0, 0, []), (17, 0, .iconst 0, 1, 0, 0, []), (18, 0, .ireturn, 1, 0, 0, [])]
def TY_Law_wish : List Int → AMem → (Int → AMem → Prop) → Prop := am_TY GR [a_LinkHouse_wish] [ax_LinkHouse_wish] c_Law_wish [(0, 8, 11, 13), (0, 8, 14, 15)] [1, 2] [2, 2] 20
def ay_Law_wish : AY := (504, (y_Law_wish, method_7_code, 3), [(0, 8, 11, 13), (0, 8, 14, 15)], [2, 2], { frames := 11, cells := 1, slots := 6, locals := 308 }, TY_Law_wish)
set_option maxRecDepth 100000 in
theorem my_Law_wish : am_cw ay_Law_wish ∈ am_tbl ∧ Cond.initialized y_Law_wish.cls ∈ am_tbl ∧ Cond.static y_Law_wish ∈ am_tbl ∧ (parseMethodDescriptor y_Law_wish.desc).map (fun d => d.parameters.length) = some 2 := ⟨am_in_tbl (am_wd_in (show am_wd 6050 = some _ from rfl)) rfl, am_in_tbl (am_wd_in (show am_wd 0 = some _ from rfl)) rfl, am_in_tbl (am_wd_in (show am_wd 6049 = some _ from rfl)) rfl, by decide +kernel⟩
set_option maxRecDepth 100000 in
theorem sy_Law_wish : (am_chkR { frames := 11, cells := 1, slots := 6, locals := 308 } [a_LinkHouse_wish] && am_chkRX { frames := 11, cells := 1, slots := 6, locals := 308 } [ax_LinkHouse_wish] && decide (1 ≤ ({ frames := 11, cells := 1, slots := 6, locals := 308 } : Room).cells ∧ 6 ≤ ({ frames := 11, cells := 1, slots := 6, locals := 308 } : Room).slots) && c_Law_wish.all (fun e => !am_isS e.2.2.1) && c_Law_wish.all (am_chk "LinkHouseLaw" method_7_code 3 (some .int) [a_LinkHouse_wish]) && c_Law_wish.all (am_chkX "LinkHouseLaw" [ax_LinkHouse_wish]) && (am_pcs c_Law_wish).all (fun pc => am_chkH "LinkHouseLaw" pc [(0, 8, 11, 13), (0, 8, 14, 15)] [1, 2]) && am_kinds [1, 2] && decide (am_argn [2, 2] ≤ 3)) = true := by decide +kernel
set_option maxRecDepth 100000 in
theorem SY_Law_wish (l : Launch) (w : AW) (hfl : l.flags = pinnedFlags ++ [noTraceFlag]) : am_SY l w GR ay_Law_wish := am_soundY (cal := [a_LinkHouse_wish]) (calX := [ax_LinkHouse_wish]) 504 y_Law_wish method_7_code 3 [(0, 8, 11, 13), (0, 8, 14, 15)] [1, 2] [2, 2] { frames := 11, cells := 1, slots := 6, locals := 308 } "LinkHouseLaw" c_Law_wish 20 my_Law_wish (by decide +kernel) rfl (am_cal (S_LinkHouse_wish l w) (fun _ h => absurd h List.not_mem_nil)) (am_calX (SX_LinkHouse_wish l w hfl) (fun _ h => absurd h List.not_mem_nil)) sy_Law_wish
set_option maxRecDepth 100000 in
theorem of_Law_wish {Q : Int → AMem → Prop} {σ : AMem} (h : T_LinkHouse_wish [1] σ (fun r1 σ1 => ((0 : Int) ≤ 0 ∧ (0 : Int) < 1 ∧ am_let (am_upd σ1 9878 0 r1) (fun σ2 => Q 0 σ2))) ∨ TX_LinkHouse_wish [1] σ (fun k σ' => (k = 1 ∧ Q 1 σ') ∨ (k = 2 ∧ Q 2 σ'))) : TY_Law_wish [1, 9878] σ Q := by
  rcases h with h | h
  · exact Or.inl h
  · refine Or.inr ⟨_, h, fun k σ' hk => ?_⟩
    rcases hk with ⟨rfl, hk⟩ | ⟨rfl, hk⟩
    · exact ⟨11, rfl, fun a' _ => hk⟩
    · exact ⟨14, rfl, fun a' _ => hk⟩
abbrev y_Law_named : MethodName := ⟨"LinkHouseLaw", "named", "(LLinkHouse;[J)I"⟩
def c_Law_named : List aE := [(0, 0, .aload_n 1, 1, 0, 0, []), (1, 0, .iconst 0, 1, 0, 0, []), (2, 0, .aload_n 0, 1, 0, 0, []), (3, 0, .invokevirtual 31, 3, 165, 0, [6058]), (6, 0, .i2l, 1, 0, 0, []), (7, 0, .lastore, 1, 0, 0, []), (8, 0, .goto 6, 3, 0, 0, []), (11, 0, .astore_n 2, 1, 0, 0, []), (12, 0, .iconst 1, 1, 0, 0, []), (13, 0, .ireturn, 1, 0, 0, []), (14, 0, .iconst 0, 1, 0, 0, []), (15, 0, .ireturn, 1, 0, 0, [])]
def TY_Law_named : List Int → AMem → (Int → AMem → Prop) → Prop := am_TY GR [a_LinkHouse_named] [ax_LinkHouse_named] c_Law_named [(0, 8, 11, 15)] [2] [2, 2] 17
def ay_Law_named : AY := (505, (y_Law_named, method_8_code, 3), [(0, 8, 11, 15)], [2, 2], { frames := 10, cells := 1, slots := 6, locals := 285 }, TY_Law_named)
set_option maxRecDepth 100000 in
theorem my_Law_named : am_cw ay_Law_named ∈ am_tbl ∧ Cond.initialized y_Law_named.cls ∈ am_tbl ∧ Cond.static y_Law_named ∈ am_tbl ∧ (parseMethodDescriptor y_Law_named.desc).map (fun d => d.parameters.length) = some 2 := ⟨am_in_tbl (am_wd_in (show am_wd 6057 = some _ from rfl)) rfl, am_in_tbl (am_wd_in (show am_wd 0 = some _ from rfl)) rfl, am_in_tbl (am_wd_in (show am_wd 6056 = some _ from rfl)) rfl, by decide +kernel⟩
set_option maxRecDepth 100000 in
theorem sy_Law_named : (am_chkR { frames := 10, cells := 1, slots := 6, locals := 285 } [a_LinkHouse_named] && am_chkRX { frames := 10, cells := 1, slots := 6, locals := 285 } [ax_LinkHouse_named] && decide (1 ≤ ({ frames := 10, cells := 1, slots := 6, locals := 285 } : Room).cells ∧ 6 ≤ ({ frames := 10, cells := 1, slots := 6, locals := 285 } : Room).slots) && c_Law_named.all (fun e => !am_isS e.2.2.1) && c_Law_named.all (am_chk "LinkHouseLaw" method_8_code 3 (some .int) [a_LinkHouse_named]) && c_Law_named.all (am_chkX "LinkHouseLaw" [ax_LinkHouse_named]) && (am_pcs c_Law_named).all (fun pc => am_chkH "LinkHouseLaw" pc [(0, 8, 11, 15)] [2]) && am_kinds [2] && decide (am_argn [2, 2] ≤ 3)) = true := by decide +kernel
set_option maxRecDepth 100000 in
theorem SY_Law_named (l : Launch) (w : AW) (hfl : l.flags = pinnedFlags ++ [noTraceFlag]) : am_SY l w GR ay_Law_named := am_soundY (cal := [a_LinkHouse_named]) (calX := [ax_LinkHouse_named]) 505 y_Law_named method_8_code 3 [(0, 8, 11, 15)] [2] [2, 2] { frames := 10, cells := 1, slots := 6, locals := 285 } "LinkHouseLaw" c_Law_named 17 my_Law_named (by decide +kernel) rfl (am_cal (S_LinkHouse_named l w) (fun _ h => absurd h List.not_mem_nil)) (am_calX (SX_LinkHouse_named l w hfl) (fun _ h => absurd h List.not_mem_nil)) sy_Law_named
set_option maxRecDepth 100000 in
theorem of_Law_named {Q : Int → AMem → Prop} {σ : AMem} (h : T_LinkHouse_named [1] σ (fun r1 σ1 => ((0 : Int) ≤ 0 ∧ (0 : Int) < 1 ∧ am_let (am_upd σ1 9878 0 r1) (fun σ2 => Q 0 σ2))) ∨ TX_LinkHouse_named [1] σ (fun k σ' => (k = 2 ∧ Q 1 σ'))) : TY_Law_named [1, 9878] σ Q := by
  rcases h with h | h
  · exact Or.inl h
  · refine Or.inr ⟨_, h, fun k σ' hk => ?_⟩
    rcases hk with ⟨rfl, hk⟩
    · exact ⟨11, rfl, fun a' _ => hk⟩
abbrev y_Law_list : MethodName := ⟨"LinkHouseLaw", "list", "(LLinkHouse;II[J)I"⟩
def c_Law_list : List aE := [(0, 0, .aload_n 3, 1, 0, 0, []), (1, 0, .iconst 0, 1, 0, 0, []), (2, 0, .aload_n 0, 1, 0, 0, []), (3, 0, .iload_n 1, 1, 0, 0, []), (4, 0, .iload_n 2, 1, 0, 0, []), (5, 0, .invokevirtual 34, 3, 169, 0, [6081]), (8, 0, .i2l, 1, 0, 0, []), (9, 0, .lastore, 1, 0, 0, []), (10, 0, .goto 7, 3, 0, 0, []), (13, 0, .astore 4, 2, 0, 0, []), (15, 0, .iconst 1, 1, 0, 0, []), (16, 0, .ireturn, 1, 0, 0, []), (17, 0, .iconst 0, 1, 0, 0, []), (18, 0, .ireturn, 1, 0, 0, [])]
def TY_Law_list : List Int → AMem → (Int → AMem → Prop) → Prop := am_TY GR [a_LinkHouse_list2] [ax_LinkHouse_list2] c_Law_list [(0, 10, 13, 38)] [3] [2, 0, 0, 2] 19
def ay_Law_list : AY := (506, (y_Law_list, method_9_code, 5), [(0, 10, 13, 38)], [2, 0, 0, 2], { frames := 10, cells := 1, slots := 6, locals := 282 }, TY_Law_list)
set_option maxRecDepth 100000 in
theorem my_Law_list : am_cw ay_Law_list ∈ am_tbl ∧ Cond.initialized y_Law_list.cls ∈ am_tbl ∧ Cond.static y_Law_list ∈ am_tbl ∧ (parseMethodDescriptor y_Law_list.desc).map (fun d => d.parameters.length) = some 4 := ⟨am_in_tbl (am_wd_in (show am_wd 6079 = some _ from rfl)) rfl, am_in_tbl (am_wd_in (show am_wd 0 = some _ from rfl)) rfl, am_in_tbl (am_wd_in (show am_wd 6078 = some _ from rfl)) rfl, by decide +kernel⟩
set_option maxRecDepth 100000 in
theorem sy_Law_list : (am_chkR { frames := 10, cells := 1, slots := 6, locals := 282 } [a_LinkHouse_list2] && am_chkRX { frames := 10, cells := 1, slots := 6, locals := 282 } [ax_LinkHouse_list2] && decide (1 ≤ ({ frames := 10, cells := 1, slots := 6, locals := 282 } : Room).cells ∧ 6 ≤ ({ frames := 10, cells := 1, slots := 6, locals := 282 } : Room).slots) && c_Law_list.all (fun e => !am_isS e.2.2.1) && c_Law_list.all (am_chk "LinkHouseLaw" method_9_code 5 (some .int) [a_LinkHouse_list2]) && c_Law_list.all (am_chkX "LinkHouseLaw" [ax_LinkHouse_list2]) && (am_pcs c_Law_list).all (fun pc => am_chkH "LinkHouseLaw" pc [(0, 10, 13, 38)] [3]) && am_kinds [3] && decide (am_argn [2, 0, 0, 2] ≤ 5)) = true := by decide +kernel
set_option maxRecDepth 100000 in
theorem SY_Law_list (l : Launch) (w : AW) (hfl : l.flags = pinnedFlags ++ [noTraceFlag]) : am_SY l w GR ay_Law_list := am_soundY (cal := [a_LinkHouse_list2]) (calX := [ax_LinkHouse_list2]) 506 y_Law_list method_9_code 5 [(0, 10, 13, 38)] [3] [2, 0, 0, 2] { frames := 10, cells := 1, slots := 6, locals := 282 } "LinkHouseLaw" c_Law_list 19 my_Law_list (by decide +kernel) rfl (am_cal (S_LinkHouse_list2 l w) (fun _ h => absurd h List.not_mem_nil)) (am_calX (SX_LinkHouse_list2 l w hfl) (fun _ h => absurd h List.not_mem_nil)) sy_Law_list
set_option maxRecDepth 100000 in
theorem of_Law_list {Q : Int → AMem → Prop} {x1 x2 : Int} {σ : AMem} (h : T_LinkHouse_list2 [1, x1, x2] σ (fun r1 σ1 => ((0 : Int) ≤ 0 ∧ (0 : Int) < 1 ∧ am_let (am_upd σ1 9878 0 r1) (fun σ2 => Q 0 σ2))) ∨ TX_LinkHouse_list2 [1, x1, x2] σ (fun k σ' => (k = 3 ∧ Q 1 σ'))) : TY_Law_list [1, x1, x2, 9878] σ Q := by
  rcases h with h | h
  · exact Or.inl h
  · refine Or.inr ⟨_, h, fun k σ' hk => ?_⟩
    rcases hk with ⟨rfl, hk⟩
    · exact ⟨13, rfl, fun a' _ => hk⟩
abbrev y_Law_sum : MethodName := ⟨"LinkHouseLaw", "sum", "(LLinkHouse;III[J)I"⟩
def c_Law_sum : List aE := [(0, 0, .aload 4, 2, 0, 0, []), (2, 0, .iconst 0, 1, 0, 0, []), (3, 0, .aload_n 0, 1, 0, 0, []), (4, 0, .iload_n 1, 1, 0, 0, []), (5, 0, .iload_n 2, 1, 0, 0, []), (6, 0, .iload_n 3, 1, 0, 0, []), (7, 0, .invokevirtual 40, 3, 170, 0, [6114]), (10, 0, .lastore, 1, 0, 0, []), (11, 0, .goto 7, 3, 0, 0, []), (14, 0, .astore 5, 2, 0, 0, []), (16, 0, .iconst 1, 1, 0, 0, []), (17, 0, .ireturn, 1, 0, 0, []), (18, 0, .iconst 0, 1, 0, 0, []), (19, 0, .ireturn, 1, 0, 0, [])]
def TY_Law_sum : List Int → AMem → (Int → AMem → Prop) → Prop := am_TY GR [a_LinkHouse_sum] [ax_LinkHouse_sum] c_Law_sum [(0, 11, 14, 38)] [3] [2, 0, 0, 0, 2] 19
def ay_Law_sum : AY := (507, (y_Law_sum, method_10_code, 6), [(0, 11, 14, 38)], [2, 0, 0, 0, 2], { frames := 10, cells := 1, slots := 6, locals := 283 }, TY_Law_sum)
set_option maxRecDepth 100000 in
theorem my_Law_sum : am_cw ay_Law_sum ∈ am_tbl ∧ Cond.initialized y_Law_sum.cls ∈ am_tbl ∧ Cond.static y_Law_sum ∈ am_tbl ∧ (parseMethodDescriptor y_Law_sum.desc).map (fun d => d.parameters.length) = some 5 := ⟨am_in_tbl (am_wd_in (show am_wd 6113 = some _ from rfl)) rfl, am_in_tbl (am_wd_in (show am_wd 0 = some _ from rfl)) rfl, am_in_tbl (am_wd_in (show am_wd 6112 = some _ from rfl)) rfl, by decide +kernel⟩
set_option maxRecDepth 100000 in
theorem sy_Law_sum : (am_chkR { frames := 10, cells := 1, slots := 6, locals := 283 } [a_LinkHouse_sum] && am_chkRX { frames := 10, cells := 1, slots := 6, locals := 283 } [ax_LinkHouse_sum] && decide (1 ≤ ({ frames := 10, cells := 1, slots := 6, locals := 283 } : Room).cells ∧ 6 ≤ ({ frames := 10, cells := 1, slots := 6, locals := 283 } : Room).slots) && c_Law_sum.all (fun e => !am_isS e.2.2.1) && c_Law_sum.all (am_chk "LinkHouseLaw" method_10_code 6 (some .int) [a_LinkHouse_sum]) && c_Law_sum.all (am_chkX "LinkHouseLaw" [ax_LinkHouse_sum]) && (am_pcs c_Law_sum).all (fun pc => am_chkH "LinkHouseLaw" pc [(0, 11, 14, 38)] [3]) && am_kinds [3] && decide (am_argn [2, 0, 0, 0, 2] ≤ 6)) = true := by decide +kernel
set_option maxRecDepth 100000 in
theorem SY_Law_sum (l : Launch) (w : AW) (hfl : l.flags = pinnedFlags ++ [noTraceFlag]) : am_SY l w GR ay_Law_sum := am_soundY (cal := [a_LinkHouse_sum]) (calX := [ax_LinkHouse_sum]) 507 y_Law_sum method_10_code 6 [(0, 11, 14, 38)] [3] [2, 0, 0, 0, 2] { frames := 10, cells := 1, slots := 6, locals := 283 } "LinkHouseLaw" c_Law_sum 19 my_Law_sum (by decide +kernel) rfl (am_cal (S_LinkHouse_sum l w) (fun _ h => absurd h List.not_mem_nil)) (am_calX (SX_LinkHouse_sum l w hfl) (fun _ h => absurd h List.not_mem_nil)) sy_Law_sum
set_option maxRecDepth 100000 in
theorem of_Law_sum {Q : Int → AMem → Prop} {x1 x2 x3 : Int} {σ : AMem} (h : T_LinkHouse_sum [1, x1, x2, x3] σ (fun r1 σ1 => ((0 : Int) ≤ 0 ∧ (0 : Int) < 1 ∧ am_let (am_upd σ1 9878 0 r1) (fun σ2 => Q 0 σ2))) ∨ TX_LinkHouse_sum [1, x1, x2, x3] σ (fun k σ' => (k = 3 ∧ Q 1 σ'))) : TY_Law_sum [1, x1, x2, x3, 9878] σ Q := by
  rcases h with h | h
  · exact Or.inl h
  · refine Or.inr ⟨_, h, fun k σ' hk => ?_⟩
    rcases hk with ⟨rfl, hk⟩
    · exact ⟨14, rfl, fun a' _ => hk⟩
abbrev y_Law_map : MethodName := ⟨"LinkHouseLaw", "map", "(LLinkHouse;[J)I"⟩
def c_Law_map : List aE := [(0, 0, .aload_n 1, 1, 0, 0, []), (1, 0, .iconst 0, 1, 0, 0, []), (2, 0, .aload_n 0, 1, 0, 0, []), (3, 0, .invokevirtual 44, 3, 172, 0, [6122]), (6, 0, .i2l, 1, 0, 0, []), (7, 0, .lastore, 1, 0, 0, []), (8, 0, .goto 6, 3, 0, 0, []), (11, 0, .astore_n 2, 1, 0, 0, []), (12, 0, .iconst 1, 1, 0, 0, []), (13, 0, .ireturn, 1, 0, 0, []), (14, 0, .iconst 0, 1, 0, 0, []), (15, 0, .ireturn, 1, 0, 0, [])]
def TY_Law_map : List Int → AMem → (Int → AMem → Prop) → Prop := am_TY GR [a_LinkHouse_map] [ax_LinkHouse_map] c_Law_map [(0, 8, 11, 15)] [2] [2, 2] 17
def ay_Law_map : AY := (508, (y_Law_map, method_11_code, 3), [(0, 8, 11, 15)], [2, 2], { frames := 10, cells := 1, slots := 6, locals := 280 }, TY_Law_map)
set_option maxRecDepth 100000 in
theorem my_Law_map : am_cw ay_Law_map ∈ am_tbl ∧ Cond.initialized y_Law_map.cls ∈ am_tbl ∧ Cond.static y_Law_map ∈ am_tbl ∧ (parseMethodDescriptor y_Law_map.desc).map (fun d => d.parameters.length) = some 2 := ⟨am_in_tbl (am_wd_in (show am_wd 6121 = some _ from rfl)) rfl, am_in_tbl (am_wd_in (show am_wd 0 = some _ from rfl)) rfl, am_in_tbl (am_wd_in (show am_wd 6120 = some _ from rfl)) rfl, by decide +kernel⟩
set_option maxRecDepth 100000 in
theorem sy_Law_map : (am_chkR { frames := 10, cells := 1, slots := 6, locals := 280 } [a_LinkHouse_map] && am_chkRX { frames := 10, cells := 1, slots := 6, locals := 280 } [ax_LinkHouse_map] && decide (1 ≤ ({ frames := 10, cells := 1, slots := 6, locals := 280 } : Room).cells ∧ 6 ≤ ({ frames := 10, cells := 1, slots := 6, locals := 280 } : Room).slots) && c_Law_map.all (fun e => !am_isS e.2.2.1) && c_Law_map.all (am_chk "LinkHouseLaw" method_11_code 3 (some .int) [a_LinkHouse_map]) && c_Law_map.all (am_chkX "LinkHouseLaw" [ax_LinkHouse_map]) && (am_pcs c_Law_map).all (fun pc => am_chkH "LinkHouseLaw" pc [(0, 8, 11, 15)] [2]) && am_kinds [2] && decide (am_argn [2, 2] ≤ 3)) = true := by decide +kernel
set_option maxRecDepth 100000 in
theorem SY_Law_map (l : Launch) (w : AW) (hfl : l.flags = pinnedFlags ++ [noTraceFlag]) : am_SY l w GR ay_Law_map := am_soundY (cal := [a_LinkHouse_map]) (calX := [ax_LinkHouse_map]) 508 y_Law_map method_11_code 3 [(0, 8, 11, 15)] [2] [2, 2] { frames := 10, cells := 1, slots := 6, locals := 280 } "LinkHouseLaw" c_Law_map 17 my_Law_map (by decide +kernel) rfl (am_cal (S_LinkHouse_map l w) (fun _ h => absurd h List.not_mem_nil)) (am_calX (SX_LinkHouse_map l w hfl) (fun _ h => absurd h List.not_mem_nil)) sy_Law_map
set_option maxRecDepth 100000 in
theorem of_Law_map {Q : Int → AMem → Prop} {σ : AMem} (h : T_LinkHouse_map [1] σ (fun r1 σ1 => ((0 : Int) ≤ 0 ∧ (0 : Int) < 1 ∧ am_let (am_upd σ1 9878 0 r1) (fun σ2 => Q 0 σ2))) ∨ TX_LinkHouse_map [1] σ (fun k σ' => (k = 2 ∧ Q 1 σ'))) : TY_Law_map [1, 9878] σ Q := by
  rcases h with h | h
  · exact Or.inl h
  · refine Or.inr ⟨_, h, fun k σ' hk => ?_⟩
    rcases hk with ⟨rfl, hk⟩
    · exact ⟨11, rfl, fun a' _ => hk⟩
abbrev y_Law_address : MethodName := ⟨"LinkHouseLaw", "address", "(LLinkHouse;[J)I"⟩
def c_Law_address : List aE := [(0, 0, .aload_n 1, 1, 0, 0, []), (1, 0, .iconst 0, 1, 0, 0, []), (2, 0, .aload_n 0, 1, 0, 0, []), (3, 0, .invokevirtual 47, 3, 173, 0, [6133]), (6, 0, .lastore, 1, 0, 0, []), (7, 0, .goto 6, 3, 0, 0, []), (10, 0, .astore_n 2, 1, 0, 0, []), (11, 0, .iconst 1, 1, 0, 0, []), (12, 0, .ireturn, 1, 0, 0, []), (13, 0, .iconst 0, 1, 0, 0, []), (14, 0, .ireturn, 1, 0, 0, [])]
def TY_Law_address : List Int → AMem → (Int → AMem → Prop) → Prop := am_TY GR [a_LinkHouse_address] [ax_LinkHouse_address] c_Law_address [(0, 7, 10, 15)] [2] [2, 2] 16
def ay_Law_address : AY := (509, (y_Law_address, method_12_code, 3), [(0, 7, 10, 15)], [2, 2], { frames := 10, cells := 1, slots := 6, locals := 277 }, TY_Law_address)
set_option maxRecDepth 100000 in
theorem my_Law_address : am_cw ay_Law_address ∈ am_tbl ∧ Cond.initialized y_Law_address.cls ∈ am_tbl ∧ Cond.static y_Law_address ∈ am_tbl ∧ (parseMethodDescriptor y_Law_address.desc).map (fun d => d.parameters.length) = some 2 := ⟨am_in_tbl (am_wd_in (show am_wd 6132 = some _ from rfl)) rfl, am_in_tbl (am_wd_in (show am_wd 0 = some _ from rfl)) rfl, am_in_tbl (am_wd_in (show am_wd 6131 = some _ from rfl)) rfl, by decide +kernel⟩
set_option maxRecDepth 100000 in
theorem sy_Law_address : (am_chkR { frames := 10, cells := 1, slots := 6, locals := 277 } [a_LinkHouse_address] && am_chkRX { frames := 10, cells := 1, slots := 6, locals := 277 } [ax_LinkHouse_address] && decide (1 ≤ ({ frames := 10, cells := 1, slots := 6, locals := 277 } : Room).cells ∧ 6 ≤ ({ frames := 10, cells := 1, slots := 6, locals := 277 } : Room).slots) && c_Law_address.all (fun e => !am_isS e.2.2.1) && c_Law_address.all (am_chk "LinkHouseLaw" method_12_code 3 (some .int) [a_LinkHouse_address]) && c_Law_address.all (am_chkX "LinkHouseLaw" [ax_LinkHouse_address]) && (am_pcs c_Law_address).all (fun pc => am_chkH "LinkHouseLaw" pc [(0, 7, 10, 15)] [2]) && am_kinds [2] && decide (am_argn [2, 2] ≤ 3)) = true := by decide +kernel
set_option maxRecDepth 100000 in
theorem SY_Law_address (l : Launch) (w : AW) (hfl : l.flags = pinnedFlags ++ [noTraceFlag]) : am_SY l w GR ay_Law_address := am_soundY (cal := [a_LinkHouse_address]) (calX := [ax_LinkHouse_address]) 509 y_Law_address method_12_code 3 [(0, 7, 10, 15)] [2] [2, 2] { frames := 10, cells := 1, slots := 6, locals := 277 } "LinkHouseLaw" c_Law_address 16 my_Law_address (by decide +kernel) rfl (am_cal (S_LinkHouse_address l w) (fun _ h => absurd h List.not_mem_nil)) (am_calX (SX_LinkHouse_address l w hfl) (fun _ h => absurd h List.not_mem_nil)) sy_Law_address
set_option maxRecDepth 100000 in
theorem of_Law_address {Q : Int → AMem → Prop} {σ : AMem} (h : T_LinkHouse_address [1] σ (fun r1 σ1 => ((0 : Int) ≤ 0 ∧ (0 : Int) < 1 ∧ am_let (am_upd σ1 9878 0 r1) (fun σ2 => Q 0 σ2))) ∨ TX_LinkHouse_address [1] σ (fun k σ' => (k = 2 ∧ Q 1 σ'))) : TY_Law_address [1, 9878] σ Q := by
  rcases h with h | h
  · exact Or.inl h
  · refine Or.inr ⟨_, h, fun k σ' hk => ?_⟩
    rcases hk with ⟨rfl, hk⟩
    · exact ⟨10, rfl, fun a' _ => hk⟩
abbrev y_Law_taken : MethodName := ⟨"LinkHouseLaw", "taken", "(LLinkHouse;II[J)I"⟩
def c_Law_taken : List aE := [(0, 0, .aload_n 3, 1, 0, 0, []), (1, 0, .iconst 0, 1, 0, 0, []), (2, 0, .aload_n 0, 1, 0, 0, []), (3, 0, .iload_n 1, 1, 0, 0, []), (4, 0, .iload_n 2, 1, 0, 0, []), (5, 0, .invokevirtual 51, 3, 174, 0, [6140]), (8, 0, .ifCond .eq 7, 3, 0, 0, []), (11, 0, .lconst 1, 1, 0, 0, []), (12, 0, .goto 4, 3, 0, 0, []), (15, 0, .lconst 0, 1, 0, 0, []), (16, 0, .lastore, 1, 0, 0, []), (17, 0, .goto 7, 3, 0, 0, []), (20, 0, .astore 4, 2, 0, 0, []), (22, 0, .iconst 1, 1, 0, 0, []), (23, 0, .ireturn, 1, 0, 0, []), (24, 0, .iconst 0, 1, 0, 0, []), (25, 0, .ireturn, 1, 0, 0, [])]
def TY_Law_taken : List Int → AMem → (Int → AMem → Prop) → Prop := am_TY GR [a_LinkHouse_taken] [ax_LinkHouse_taken] c_Law_taken [(0, 17, 20, 38)] [3] [2, 0, 0, 2] 22
def ay_Law_taken : AY := (510, (y_Law_taken, method_13_code, 5), [(0, 17, 20, 38)], [2, 0, 0, 2], { frames := 10, cells := 1, slots := 6, locals := 278 }, TY_Law_taken)
set_option maxRecDepth 100000 in
theorem my_Law_taken : am_cw ay_Law_taken ∈ am_tbl ∧ Cond.initialized y_Law_taken.cls ∈ am_tbl ∧ Cond.static y_Law_taken ∈ am_tbl ∧ (parseMethodDescriptor y_Law_taken.desc).map (fun d => d.parameters.length) = some 4 := ⟨am_in_tbl (am_wd_in (show am_wd 6139 = some _ from rfl)) rfl, am_in_tbl (am_wd_in (show am_wd 0 = some _ from rfl)) rfl, am_in_tbl (am_wd_in (show am_wd 6138 = some _ from rfl)) rfl, by decide +kernel⟩
set_option maxRecDepth 100000 in
theorem sy_Law_taken : (am_chkR { frames := 10, cells := 1, slots := 6, locals := 278 } [a_LinkHouse_taken] && am_chkRX { frames := 10, cells := 1, slots := 6, locals := 278 } [ax_LinkHouse_taken] && decide (1 ≤ ({ frames := 10, cells := 1, slots := 6, locals := 278 } : Room).cells ∧ 6 ≤ ({ frames := 10, cells := 1, slots := 6, locals := 278 } : Room).slots) && c_Law_taken.all (fun e => !am_isS e.2.2.1) && c_Law_taken.all (am_chk "LinkHouseLaw" method_13_code 5 (some .int) [a_LinkHouse_taken]) && c_Law_taken.all (am_chkX "LinkHouseLaw" [ax_LinkHouse_taken]) && (am_pcs c_Law_taken).all (fun pc => am_chkH "LinkHouseLaw" pc [(0, 17, 20, 38)] [3]) && am_kinds [3] && decide (am_argn [2, 0, 0, 2] ≤ 5)) = true := by decide +kernel
set_option maxRecDepth 100000 in
theorem SY_Law_taken (l : Launch) (w : AW) (hfl : l.flags = pinnedFlags ++ [noTraceFlag]) : am_SY l w GR ay_Law_taken := am_soundY (cal := [a_LinkHouse_taken]) (calX := [ax_LinkHouse_taken]) 510 y_Law_taken method_13_code 5 [(0, 17, 20, 38)] [3] [2, 0, 0, 2] { frames := 10, cells := 1, slots := 6, locals := 278 } "LinkHouseLaw" c_Law_taken 22 my_Law_taken (by decide +kernel) rfl (am_cal (S_LinkHouse_taken l w) (fun _ h => absurd h List.not_mem_nil)) (am_calX (SX_LinkHouse_taken l w hfl) (fun _ h => absurd h List.not_mem_nil)) sy_Law_taken
set_option maxRecDepth 100000 in
theorem of_Law_taken {Q : Int → AMem → Prop} {x1 x2 : Int} {σ : AMem} (h : T_LinkHouse_taken [1, x1, x2] σ (fun r1 σ1 => (if r1 = 0 then ((0 : Int) ≤ 0 ∧ (0 : Int) < 1 ∧ am_let (am_upd σ1 9878 0 0) (fun σ2 => Q 0 σ2)) else ((0 : Int) ≤ 0 ∧ (0 : Int) < 1 ∧ am_let (am_upd σ1 9878 0 1) (fun σ2 => Q 0 σ2)))) ∨ TX_LinkHouse_taken [1, x1, x2] σ (fun k σ' => (k = 3 ∧ Q 1 σ'))) : TY_Law_taken [1, x1, x2, 9878] σ Q := by
  rcases h with h | h
  · exact Or.inl h
  · refine Or.inr ⟨_, h, fun k σ' hk => ?_⟩
    rcases hk with ⟨rfl, hk⟩
    · exact ⟨20, rfl, fun a' _ => hk⟩
abbrev y_Law_cause : MethodName := ⟨"LinkHouseLaw", "cause", "(LLinkHouse;II[J)I"⟩
def c_Law_cause : List aE := [(0, 0, .aload_n 3, 1, 0, 0, []), (1, 0, .iconst 0, 1, 0, 0, []), (2, 0, .aload_n 0, 1, 0, 0, []), (3, 0, .iload_n 1, 1, 0, 0, []), (4, 0, .iload_n 2, 1, 0, 0, []), (5, 0, .invokevirtual 55, 3, 175, 0, [6147]), (8, 0, .i2l, 1, 0, 0, []), (9, 0, .lastore, 1, 0, 0, []), (10, 0, .goto 7, 3, 0, 0, []), (13, 0, .astore 4, 2, 0, 0, []), (15, 0, .iconst 1, 1, 0, 0, []), (16, 0, .ireturn, 1, 0, 0, []), (17, 0, .iconst 0, 1, 0, 0, []), (18, 0, .ireturn, 1, 0, 0, [])]
def TY_Law_cause : List Int → AMem → (Int → AMem → Prop) → Prop := am_TY GR [a_LinkHouse_cause] [ax_LinkHouse_cause] c_Law_cause [(0, 10, 13, 38)] [3] [2, 0, 0, 2] 19
def ay_Law_cause : AY := (511, (y_Law_cause, method_14_code, 5), [(0, 10, 13, 38)], [2, 0, 0, 2], { frames := 10, cells := 1, slots := 6, locals := 279 }, TY_Law_cause)
set_option maxRecDepth 100000 in
theorem my_Law_cause : am_cw ay_Law_cause ∈ am_tbl ∧ Cond.initialized y_Law_cause.cls ∈ am_tbl ∧ Cond.static y_Law_cause ∈ am_tbl ∧ (parseMethodDescriptor y_Law_cause.desc).map (fun d => d.parameters.length) = some 4 := ⟨am_in_tbl (am_wd_in (show am_wd 6146 = some _ from rfl)) rfl, am_in_tbl (am_wd_in (show am_wd 0 = some _ from rfl)) rfl, am_in_tbl (am_wd_in (show am_wd 6145 = some _ from rfl)) rfl, by decide +kernel⟩
set_option maxRecDepth 100000 in
theorem sy_Law_cause : (am_chkR { frames := 10, cells := 1, slots := 6, locals := 279 } [a_LinkHouse_cause] && am_chkRX { frames := 10, cells := 1, slots := 6, locals := 279 } [ax_LinkHouse_cause] && decide (1 ≤ ({ frames := 10, cells := 1, slots := 6, locals := 279 } : Room).cells ∧ 6 ≤ ({ frames := 10, cells := 1, slots := 6, locals := 279 } : Room).slots) && c_Law_cause.all (fun e => !am_isS e.2.2.1) && c_Law_cause.all (am_chk "LinkHouseLaw" method_14_code 5 (some .int) [a_LinkHouse_cause]) && c_Law_cause.all (am_chkX "LinkHouseLaw" [ax_LinkHouse_cause]) && (am_pcs c_Law_cause).all (fun pc => am_chkH "LinkHouseLaw" pc [(0, 10, 13, 38)] [3]) && am_kinds [3] && decide (am_argn [2, 0, 0, 2] ≤ 5)) = true := by decide +kernel
set_option maxRecDepth 100000 in
theorem SY_Law_cause (l : Launch) (w : AW) (hfl : l.flags = pinnedFlags ++ [noTraceFlag]) : am_SY l w GR ay_Law_cause := am_soundY (cal := [a_LinkHouse_cause]) (calX := [ax_LinkHouse_cause]) 511 y_Law_cause method_14_code 5 [(0, 10, 13, 38)] [3] [2, 0, 0, 2] { frames := 10, cells := 1, slots := 6, locals := 279 } "LinkHouseLaw" c_Law_cause 19 my_Law_cause (by decide +kernel) rfl (am_cal (S_LinkHouse_cause l w) (fun _ h => absurd h List.not_mem_nil)) (am_calX (SX_LinkHouse_cause l w hfl) (fun _ h => absurd h List.not_mem_nil)) sy_Law_cause
set_option maxRecDepth 100000 in
theorem of_Law_cause {Q : Int → AMem → Prop} {x1 x2 : Int} {σ : AMem} (h : T_LinkHouse_cause [1, x1, x2] σ (fun r1 σ1 => ((0 : Int) ≤ 0 ∧ (0 : Int) < 1 ∧ am_let (am_upd σ1 9878 0 r1) (fun σ2 => Q 0 σ2))) ∨ TX_LinkHouse_cause [1, x1, x2] σ (fun k σ' => (k = 3 ∧ Q 1 σ'))) : TY_Law_cause [1, x1, x2, 9878] σ Q := by
  rcases h with h | h
  · exact Or.inl h
  · refine Or.inr ⟨_, h, fun k σ' hk => ?_⟩
    rcases hk with ⟨rfl, hk⟩
    · exact ⟨13, rfl, fun a' _ => hk⟩
abbrev y_Law_section : MethodName := ⟨"LinkHouseLaw", "section", "(LLinkHouse;II[J)I"⟩
def c_Law_section : List aE := [(0, 0, .aload_n 3, 1, 0, 0, []), (1, 0, .iconst 0, 1, 0, 0, []), (2, 0, .aload_n 0, 1, 0, 0, []), (3, 0, .iload_n 1, 1, 0, 0, []), (4, 0, .iload_n 2, 1, 0, 0, []), (5, 0, .invokevirtual 58, 3, 176, 0, [6154]), (8, 0, .i2l, 1, 0, 0, []), (9, 0, .lastore, 1, 0, 0, []), (10, 0, .goto 11, 3, 0, 0, []), (13, 0, .astore 4, 2, 0, 0, []), (15, 0, .iconst 1, 1, 0, 0, []), (16, 0, .ireturn, 1, 0, 0, []), (17, 0, .astore 4, 2, 0, 0, []), (19, 0, .iconst 2, 1, 0, 0, []), (20, 0, .ireturn, 1, 0, 0, []), (21, 0, .iconst 0, 1, 0, 0, []), (22, 0, .ireturn, 1, 0, 0, [])]
def TY_Law_section : List Int → AMem → (Int → AMem → Prop) → Prop := am_TY GR [a_LinkHouse_section] [ax_LinkHouse_section] c_Law_section [(0, 10, 13, 15), (0, 10, 17, 38)] [2, 3] [2, 0, 0, 2] 22
def ay_Law_section : AY := (512, (y_Law_section, method_15_code, 5), [(0, 10, 13, 15), (0, 10, 17, 38)], [2, 0, 0, 2], { frames := 10, cells := 1, slots := 6, locals := 278 }, TY_Law_section)
set_option maxRecDepth 100000 in
theorem my_Law_section : am_cw ay_Law_section ∈ am_tbl ∧ Cond.initialized y_Law_section.cls ∈ am_tbl ∧ Cond.static y_Law_section ∈ am_tbl ∧ (parseMethodDescriptor y_Law_section.desc).map (fun d => d.parameters.length) = some 4 := ⟨am_in_tbl (am_wd_in (show am_wd 6153 = some _ from rfl)) rfl, am_in_tbl (am_wd_in (show am_wd 0 = some _ from rfl)) rfl, am_in_tbl (am_wd_in (show am_wd 6152 = some _ from rfl)) rfl, by decide +kernel⟩
set_option maxRecDepth 100000 in
theorem sy_Law_section : (am_chkR { frames := 10, cells := 1, slots := 6, locals := 278 } [a_LinkHouse_section] && am_chkRX { frames := 10, cells := 1, slots := 6, locals := 278 } [ax_LinkHouse_section] && decide (1 ≤ ({ frames := 10, cells := 1, slots := 6, locals := 278 } : Room).cells ∧ 6 ≤ ({ frames := 10, cells := 1, slots := 6, locals := 278 } : Room).slots) && c_Law_section.all (fun e => !am_isS e.2.2.1) && c_Law_section.all (am_chk "LinkHouseLaw" method_15_code 5 (some .int) [a_LinkHouse_section]) && c_Law_section.all (am_chkX "LinkHouseLaw" [ax_LinkHouse_section]) && (am_pcs c_Law_section).all (fun pc => am_chkH "LinkHouseLaw" pc [(0, 10, 13, 15), (0, 10, 17, 38)] [2, 3]) && am_kinds [2, 3] && decide (am_argn [2, 0, 0, 2] ≤ 5)) = true := by decide +kernel
set_option maxRecDepth 100000 in
theorem SY_Law_section (l : Launch) (w : AW) (hfl : l.flags = pinnedFlags ++ [noTraceFlag]) : am_SY l w GR ay_Law_section := am_soundY (cal := [a_LinkHouse_section]) (calX := [ax_LinkHouse_section]) 512 y_Law_section method_15_code 5 [(0, 10, 13, 15), (0, 10, 17, 38)] [2, 3] [2, 0, 0, 2] { frames := 10, cells := 1, slots := 6, locals := 278 } "LinkHouseLaw" c_Law_section 22 my_Law_section (by decide +kernel) rfl (am_cal (S_LinkHouse_section l w) (fun _ h => absurd h List.not_mem_nil)) (am_calX (SX_LinkHouse_section l w hfl) (fun _ h => absurd h List.not_mem_nil)) sy_Law_section
set_option maxRecDepth 100000 in
theorem of_Law_section {Q : Int → AMem → Prop} {x1 x2 : Int} {σ : AMem} (h : T_LinkHouse_section [1, x1, x2] σ (fun r1 σ1 => ((0 : Int) ≤ 0 ∧ (0 : Int) < 1 ∧ am_let (am_upd σ1 9878 0 r1) (fun σ2 => Q 0 σ2))) ∨ TX_LinkHouse_section [1, x1, x2] σ (fun k σ' => (k = 2 ∧ Q 1 σ') ∨ (k = 3 ∧ Q 2 σ'))) : TY_Law_section [1, x1, x2, 9878] σ Q := by
  rcases h with h | h
  · exact Or.inl h
  · refine Or.inr ⟨_, h, fun k σ' hk => ?_⟩
    rcases hk with ⟨rfl, hk⟩ | ⟨rfl, hk⟩
    · exact ⟨13, rfl, fun a' _ => hk⟩
    · exact ⟨17, rfl, fun a' _ => hk⟩
abbrev y_Law_place : MethodName := ⟨"LinkHouseLaw", "place", "(LLinkHouse;I[J)I"⟩
def c_Law_place : List aE := [(0, 0, .aload_n 2, 1, 0, 0, []), (1, 0, .iconst 0, 1, 0, 0, []), (2, 0, .aload_n 0, 1, 0, 0, []), (3, 0, .iload_n 1, 1, 0, 0, []), (4, 0, .invokevirtual 61, 3, 177, 0, [6161]), (7, 0, .lastore, 1, 0, 0, []), (8, 0, .goto 9, 3, 0, 0, []), (11, 0, .astore_n 3, 1, 0, 0, []), (12, 0, .iconst 1, 1, 0, 0, []), (13, 0, .ireturn, 1, 0, 0, []), (14, 0, .astore_n 3, 1, 0, 0, []), (15, 0, .iconst 2, 1, 0, 0, []), (16, 0, .ireturn, 1, 0, 0, []), (17, 0, .iconst 0, 1, 0, 0, []), (18, 0, .ireturn, 1, 0, 0, [])]
def TY_Law_place : List Int → AMem → (Int → AMem → Prop) → Prop := am_TY GR [a_LinkHouse_place] [ax_LinkHouse_place] c_Law_place [(0, 8, 11, 15), (0, 8, 14, 38)] [2, 3] [2, 0, 2] 20
def ay_Law_place : AY := (513, (y_Law_place, method_16_code, 4), [(0, 8, 11, 15), (0, 8, 14, 38)], [2, 0, 2], { frames := 10, cells := 1, slots := 6, locals := 277 }, TY_Law_place)
set_option maxRecDepth 100000 in
theorem my_Law_place : am_cw ay_Law_place ∈ am_tbl ∧ Cond.initialized y_Law_place.cls ∈ am_tbl ∧ Cond.static y_Law_place ∈ am_tbl ∧ (parseMethodDescriptor y_Law_place.desc).map (fun d => d.parameters.length) = some 3 := ⟨am_in_tbl (am_wd_in (show am_wd 6160 = some _ from rfl)) rfl, am_in_tbl (am_wd_in (show am_wd 0 = some _ from rfl)) rfl, am_in_tbl (am_wd_in (show am_wd 6159 = some _ from rfl)) rfl, by decide +kernel⟩
set_option maxRecDepth 100000 in
theorem sy_Law_place : (am_chkR { frames := 10, cells := 1, slots := 6, locals := 277 } [a_LinkHouse_place] && am_chkRX { frames := 10, cells := 1, slots := 6, locals := 277 } [ax_LinkHouse_place] && decide (1 ≤ ({ frames := 10, cells := 1, slots := 6, locals := 277 } : Room).cells ∧ 6 ≤ ({ frames := 10, cells := 1, slots := 6, locals := 277 } : Room).slots) && c_Law_place.all (fun e => !am_isS e.2.2.1) && c_Law_place.all (am_chk "LinkHouseLaw" method_16_code 4 (some .int) [a_LinkHouse_place]) && c_Law_place.all (am_chkX "LinkHouseLaw" [ax_LinkHouse_place]) && (am_pcs c_Law_place).all (fun pc => am_chkH "LinkHouseLaw" pc [(0, 8, 11, 15), (0, 8, 14, 38)] [2, 3]) && am_kinds [2, 3] && decide (am_argn [2, 0, 2] ≤ 4)) = true := by decide +kernel
set_option maxRecDepth 100000 in
theorem SY_Law_place (l : Launch) (w : AW) (hfl : l.flags = pinnedFlags ++ [noTraceFlag]) : am_SY l w GR ay_Law_place := am_soundY (cal := [a_LinkHouse_place]) (calX := [ax_LinkHouse_place]) 513 y_Law_place method_16_code 4 [(0, 8, 11, 15), (0, 8, 14, 38)] [2, 3] [2, 0, 2] { frames := 10, cells := 1, slots := 6, locals := 277 } "LinkHouseLaw" c_Law_place 20 my_Law_place (by decide +kernel) rfl (am_cal (S_LinkHouse_place l w) (fun _ h => absurd h List.not_mem_nil)) (am_calX (SX_LinkHouse_place l w hfl) (fun _ h => absurd h List.not_mem_nil)) sy_Law_place
set_option maxRecDepth 100000 in
theorem of_Law_place {Q : Int → AMem → Prop} {x1 : Int} {σ : AMem} (h : T_LinkHouse_place [1, x1] σ (fun r1 σ1 => ((0 : Int) ≤ 0 ∧ (0 : Int) < 1 ∧ am_let (am_upd σ1 9878 0 r1) (fun σ2 => Q 0 σ2))) ∨ TX_LinkHouse_place [1, x1] σ (fun k σ' => (k = 2 ∧ Q 1 σ') ∨ (k = 3 ∧ Q 2 σ'))) : TY_Law_place [1, x1, 9878] σ Q := by
  rcases h with h | h
  · exact Or.inl h
  · refine Or.inr ⟨_, h, fun k σ' hk => ?_⟩
    rcases hk with ⟨rfl, hk⟩ | ⟨rfl, hk⟩
    · exact ⟨11, rfl, fun a' _ => hk⟩
    · exact ⟨14, rfl, fun a' _ => hk⟩
abbrev y_Law_out : MethodName := ⟨"LinkHouseLaw", "out", "(LLinkHouse;I[J)I"⟩
def c_Law_out : List aE := [(0, 0, .aload_n 2, 1, 0, 0, []), (1, 0, .iconst 0, 1, 0, 0, []), (2, 0, .aload_n 0, 1, 0, 0, []), (3, 0, .iload_n 1, 1, 0, 0, []), (4, 0, .invokevirtual 65, 3, 178, 0, [6168]), (7, 0, .lastore, 1, 0, 0, []), (8, 0, .goto 6, 3, 0, 0, []), (11, 0, .astore_n 3, 1, 0, 0, []), (12, 0, .iconst 1, 1, 0, 0, []), (13, 0, .ireturn, 1, 0, 0, []), (14, 0, .iconst 0, 1, 0, 0, []), (15, 0, .ireturn, 1, 0, 0, [])]
def TY_Law_out : List Int → AMem → (Int → AMem → Prop) → Prop := am_TY GR [a_LinkHouse_out] [ax_LinkHouse_out] c_Law_out [(0, 8, 11, 38)] [3] [2, 0, 2] 17
def ay_Law_out : AY := (514, (y_Law_out, method_17_code, 4), [(0, 8, 11, 38)], [2, 0, 2], { frames := 10, cells := 1, slots := 6, locals := 280 }, TY_Law_out)
set_option maxRecDepth 100000 in
theorem my_Law_out : am_cw ay_Law_out ∈ am_tbl ∧ Cond.initialized y_Law_out.cls ∈ am_tbl ∧ Cond.static y_Law_out ∈ am_tbl ∧ (parseMethodDescriptor y_Law_out.desc).map (fun d => d.parameters.length) = some 3 := ⟨am_in_tbl (am_wd_in (show am_wd 6167 = some _ from rfl)) rfl, am_in_tbl (am_wd_in (show am_wd 0 = some _ from rfl)) rfl, am_in_tbl (am_wd_in (show am_wd 6166 = some _ from rfl)) rfl, by decide +kernel⟩
set_option maxRecDepth 100000 in
theorem sy_Law_out : (am_chkR { frames := 10, cells := 1, slots := 6, locals := 280 } [a_LinkHouse_out] && am_chkRX { frames := 10, cells := 1, slots := 6, locals := 280 } [ax_LinkHouse_out] && decide (1 ≤ ({ frames := 10, cells := 1, slots := 6, locals := 280 } : Room).cells ∧ 6 ≤ ({ frames := 10, cells := 1, slots := 6, locals := 280 } : Room).slots) && c_Law_out.all (fun e => !am_isS e.2.2.1) && c_Law_out.all (am_chk "LinkHouseLaw" method_17_code 4 (some .int) [a_LinkHouse_out]) && c_Law_out.all (am_chkX "LinkHouseLaw" [ax_LinkHouse_out]) && (am_pcs c_Law_out).all (fun pc => am_chkH "LinkHouseLaw" pc [(0, 8, 11, 38)] [3]) && am_kinds [3] && decide (am_argn [2, 0, 2] ≤ 4)) = true := by decide +kernel
set_option maxRecDepth 100000 in
theorem SY_Law_out (l : Launch) (w : AW) (hfl : l.flags = pinnedFlags ++ [noTraceFlag]) : am_SY l w GR ay_Law_out := am_soundY (cal := [a_LinkHouse_out]) (calX := [ax_LinkHouse_out]) 514 y_Law_out method_17_code 4 [(0, 8, 11, 38)] [3] [2, 0, 2] { frames := 10, cells := 1, slots := 6, locals := 280 } "LinkHouseLaw" c_Law_out 17 my_Law_out (by decide +kernel) rfl (am_cal (S_LinkHouse_out l w) (fun _ h => absurd h List.not_mem_nil)) (am_calX (SX_LinkHouse_out l w hfl) (fun _ h => absurd h List.not_mem_nil)) sy_Law_out
set_option maxRecDepth 100000 in
theorem of_Law_out {Q : Int → AMem → Prop} {x1 : Int} {σ : AMem} (h : T_LinkHouse_out [1, x1] σ (fun r1 σ1 => ((0 : Int) ≤ 0 ∧ (0 : Int) < 1 ∧ am_let (am_upd σ1 9878 0 r1) (fun σ2 => Q 0 σ2))) ∨ TX_LinkHouse_out [1, x1] σ (fun k σ' => (k = 3 ∧ Q 1 σ'))) : TY_Law_out [1, x1, 9878] σ Q := by
  rcases h with h | h
  · exact Or.inl h
  · refine Or.inr ⟨_, h, fun k σ' hk => ?_⟩
    rcases hk with ⟨rfl, hk⟩
    · exact ⟨11, rfl, fun a' _ => hk⟩
abbrev y_Law_look : MethodName := ⟨"LinkHouseLaw", "look", "(LLinkHouse;I[J)I"⟩
def c_Law_look : List aE := [(0, 0, .aload_n 2, 1, 0, 0, []), (1, 0, .iconst 0, 1, 0, 0, []), (2, 0, .aload_n 0, 1, 0, 0, []), (3, 0, .iload_n 1, 1, 0, 0, []), (4, 0, .invokevirtual 68, 3, 179, 0, [6176]), (7, 0, .lastore, 1, 0, 0, []), (8, 0, .goto 6, 3, 0, 0, []), (11, 0, .astore_n 3, 1, 0, 0, []), (12, 0, .iconst 1, 1, 0, 0, []), (13, 0, .ireturn, 1, 0, 0, []), (14, 0, .iconst 0, 1, 0, 0, []), (15, 0, .ireturn, 1, 0, 0, [])]
def TY_Law_look : List Int → AMem → (Int → AMem → Prop) → Prop := am_TY GR [a_LinkHouse_look] [ax_LinkHouse_look] c_Law_look [(0, 8, 11, 13)] [1] [2, 0, 2] 17
def ay_Law_look : AY := (515, (y_Law_look, method_18_code, 4), [(0, 8, 11, 13)], [2, 0, 2], { frames := 10, cells := 1, slots := 6, locals := 277 }, TY_Law_look)
set_option maxRecDepth 100000 in
theorem my_Law_look : am_cw ay_Law_look ∈ am_tbl ∧ Cond.initialized y_Law_look.cls ∈ am_tbl ∧ Cond.static y_Law_look ∈ am_tbl ∧ (parseMethodDescriptor y_Law_look.desc).map (fun d => d.parameters.length) = some 3 := ⟨am_in_tbl (am_wd_in (show am_wd 6175 = some _ from rfl)) rfl, am_in_tbl (am_wd_in (show am_wd 0 = some _ from rfl)) rfl, am_in_tbl (am_wd_in (show am_wd 6174 = some _ from rfl)) rfl, by decide +kernel⟩
set_option maxRecDepth 100000 in
theorem sy_Law_look : (am_chkR { frames := 10, cells := 1, slots := 6, locals := 277 } [a_LinkHouse_look] && am_chkRX { frames := 10, cells := 1, slots := 6, locals := 277 } [ax_LinkHouse_look] && decide (1 ≤ ({ frames := 10, cells := 1, slots := 6, locals := 277 } : Room).cells ∧ 6 ≤ ({ frames := 10, cells := 1, slots := 6, locals := 277 } : Room).slots) && c_Law_look.all (fun e => !am_isS e.2.2.1) && c_Law_look.all (am_chk "LinkHouseLaw" method_18_code 4 (some .int) [a_LinkHouse_look]) && c_Law_look.all (am_chkX "LinkHouseLaw" [ax_LinkHouse_look]) && (am_pcs c_Law_look).all (fun pc => am_chkH "LinkHouseLaw" pc [(0, 8, 11, 13)] [1]) && am_kinds [1] && decide (am_argn [2, 0, 2] ≤ 4)) = true := by decide +kernel
set_option maxRecDepth 100000 in
theorem SY_Law_look (l : Launch) (w : AW) (hfl : l.flags = pinnedFlags ++ [noTraceFlag]) : am_SY l w GR ay_Law_look := am_soundY (cal := [a_LinkHouse_look]) (calX := [ax_LinkHouse_look]) 515 y_Law_look method_18_code 4 [(0, 8, 11, 13)] [1] [2, 0, 2] { frames := 10, cells := 1, slots := 6, locals := 277 } "LinkHouseLaw" c_Law_look 17 my_Law_look (by decide +kernel) rfl (am_cal (S_LinkHouse_look l w) (fun _ h => absurd h List.not_mem_nil)) (am_calX (SX_LinkHouse_look l w hfl) (fun _ h => absurd h List.not_mem_nil)) sy_Law_look
set_option maxRecDepth 100000 in
theorem of_Law_look {Q : Int → AMem → Prop} {x1 : Int} {σ : AMem} (h : T_LinkHouse_look [1, x1] σ (fun r1 σ1 => ((0 : Int) ≤ 0 ∧ (0 : Int) < 1 ∧ am_let (am_upd σ1 9878 0 r1) (fun σ2 => Q 0 σ2))) ∨ TX_LinkHouse_look [1, x1] σ (fun k σ' => (k = 1 ∧ Q 1 σ'))) : TY_Law_look [1, x1, 9878] σ Q := by
  rcases h with h | h
  · exact Or.inl h
  · refine Or.inr ⟨_, h, fun k σ' hk => ?_⟩
    rcases hk with ⟨rfl, hk⟩
    · exact ⟨11, rfl, fun a' _ => hk⟩
