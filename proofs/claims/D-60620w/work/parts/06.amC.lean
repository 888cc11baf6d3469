/-! THE ABSTRACT MACHINE, part 5: copies, returns, calls -/
theorem am_pay {args : Array Value} {s : State} (hT : ∀ q ∈ am_tbl, q.before args s = true) : ∀ q ∈ am_tbl, ∀ (a' : Array Value) (U : State), s.WarmedH U.vm → q.before a' U = true := by
  intro q hq a' U hW
  have hg := (List.mem_filter.mp hq).2
  refine word_at hW ?_ (hT q hq)
  unfold am_good at hg
  rw [Bool.or_eq_true] at hg
  rcases hg with h | h
  · exact Or.inl h
  · right
    split at h
    · exact ⟨_, rfl⟩
    · cases h
/-- what a method's return hands out: tag 3 is void -/
def am_rv (b rt : Nat) (x : Int) : Option Value := if rt = 3 then none else some (am_val b (rt, x))
def am_Qc (w : AW) (G : AG) (rt : Nat) (Q : Int → AMem → Prop) : Array Value → State → Outcome → State → Prop := fun _ st o t =>
  ∃ (x : Int) (σ' : AMem), o = .returned (am_rv w.1 rt x) ∧ am_rep w G σ' t.heap ∧ am_K w t ∧ (rt ≠ 3 → am_ok (rt, x)) ∧ Q x σ' ∧ st.heap.size ≤ t.heap.size ∧ ∀ q, q < w.1 → t.heap[q]? = st.heap[q]?
/-- a method as callers see it: number, its code, tags of its arguments (this first), of its answer, static, room, meaning -/
abbrev AC : Type := Nat × (MethodName × ByteArray × Nat × Option FieldType) × List Nat × Nat × Bool × Room × (List Int → AMem → (Int → AMem → Prop) → Prop)
def am_vals (b : Nat) (tags : List Nat) (xs : List Int) : List Value := (List.zip tags xs).map (am_val b)
def am_Pc (w : AW) (G : AG) (tags : List Nat) (xs : List Int) (σ : AMem) : Array Value → State → Prop := va_Pc (am_vals w.1 tags xs) (fun U => (∀ v ∈ List.zip tags xs, am_ok v) ∧ am_rep w G σ U.heap ∧ am_K w U)
def am_MSp (a : AC) : Prop := Cond.code a.2.1.1 a.2.1.2.1 a.2.1.2.2.1 a.2.1.2.2.2 ∈ am_tbl ∧ Cond.initialized a.2.1.1.cls ∈ am_tbl ∧ (a.2.1.1.cls ≠ "java/lang/invoke/MethodHandle" ∧ a.2.1.1.cls ≠ "java/lang/invoke/VarHandle") ∧ (if a.2.2.2.2.1 = true then Cond.static a.2.1.1 ∈ am_tbl ∧ (parseMethodDescriptor a.2.1.1.desc).map (fun d => d.parameters.length) = some a.2.2.1.length else Cond.instanceMethod a.2.1.1 ∈ am_tbl ∧ Cond.selects a.2.1.1.cls a.2.1.1 a.2.1.1 ∈ am_tbl ∧ ∃ (tg : List Nat) (ci : Nat) (q : vw_C), a.2.2.1 = 2 :: tg ∧ cls9[ci]? = some q ∧ q.1 = a.2.1.1.cls ∧ (parseMethodDescriptor a.2.1.1.desc).map (fun d => d.parameters.length) = some tg.length)
def am_S (l : Launch) (w : AW) (G : AG) (a : AC) : Prop := am_MSp a ∧ ∀ (xs : List Int) (σ : AMem) (Q : Int → AMem → Prop), a.2.2.2.2.2.2 xs σ Q → xs.length = a.2.2.1.length → Met l a.2.1.1 (Cond.code a.2.1.1 a.2.1.2.1 a.2.1.2.2.1 a.2.1.2.2.2 :: am_tbl) a.2.2.2.2.2.1 (am_Pc w G a.2.2.1 xs σ) (am_Qc w G a.2.2.2.1 Q) 0 0 (fun q => w.1 ≤ q)
theorem am_ixr {j : Int} (h0 : 0 ≤ j) (hr : am_r32 j) : (Int32.ofInt j).toNatClampNeg = j.toNat ∧ ¬ (Int32.ofInt j < 0) := by
  refine ⟨?_, ?_⟩
  · show (Int32.ofInt j).toInt.toNat = j.toNat
    rw [am_t32 hr]
  · rw [show (0 : Int32) = Int32.ofInt 0 from rfl, am_lt32 hr (by unfold am_r32; omega)]; omega
section AMR
variable {p : Program} {l : Launch} {e : Env} {R : Room} {s : State} {m : MethodId} {args : Array Value} {below : List Frame} {meth : Method} {c : Code} {H : Heap} {locs : List Loc} {cells slots : Nat}
variable {ws : List Cond} {cc bytes : ByteArray} {nL maxL index n mc ms : Nat} {own C : String} {y : MethodName} {ret : Option FieldType} {rm : Room} {Pc : Array Value → State → Prop} {Qc : Array Value → State → Outcome → State → Prop} {free : Addr → Prop} {b : Addr} {As rest : List Value} {g : JFrame}
/-- the kit's CallB with 16 words of stack below a call instead of 8 -/
abbrev am_CB (R : Room) (s : State) (args : Array Value) (own : String) (index : Nat) (y : MethodName) (bytes : ByteArray) (maxL : Nat) (ret : Option FieldType) (ws : List Cond) (rm : Room) (mc ms n : Nat) : Prop :=
  rm.cells = mc ∧ rm.slots = ms ∧ rm.frames + 1 ≤ R.frames ∧ 16 + (maxL + 11) + rm.locals ≤ R.locals ∧ (∀ w ∈ ws, ∀ (a' : Array Value) (U : State), s.WarmedH U.vm → w.before a' U = true) ∧ Cond.code y bytes maxL ret ∈ ws ∧
  (Cond.code y bytes maxL ret).before args s = true ∧ (Cond.initialized y.cls).before args s = true ∧ (y.cls ≠ "java/lang/invoke/MethodHandle" ∧ y.cls ≠ "java/lang/invoke/VarHandle") ∧ (∀ sig, parseMethodDescriptor y.desc = some sig → n = sig.parameters.length) ∧ (Cond.methodLink own index y).before args s = true
theorem am_back (cb : am_CB R s args own index y bytes maxL ret ws rm mc ms n) (hM : Met l y ws rm Pc Qc mc ms free) (hbl : FrameBlind Pc) : Back l R p e below s args y 3 16 (PreOf R mc ms Pc) (PostOf Qc mc ms free) := by
  obtain ⟨hrc, hrs, hfr, hlo, hws, hcw, -, hini, -⟩ := cb
  exact back_of (bytes := bytes) (maxL := maxL) (ret := ret) hM hbl hrc hrs hfr hlo hws hcw (fun a' U hW => word_at hW (Or.inl (by first | rfl | simp [Cond.onTables, Cond.keeps, Cond.steady])) hini)
theorem am_runV {Ts : List Cond} (S : CallFix p m c cc nL s args Ts own) (hM : Met l y ws rm Pc Qc mc ms free) (cw : am_CB R s args own index y bytes maxL ret ws rm mc ms n ∧ (Cond.instanceMethod y).before args s = true ∧ (Cond.selects C y y).before args s = true) (hp : PreV s H C b Pc As)
    (hg : g.method = m) (hn : As.length = n) (hsize : g.locals.size = nL) (hstack : g.stack = As.reverse ++ .ref b :: rest) (hW : 2 * g.monitorRoom + (rest.map fun v => v.category).sum ≤ 16) (hdg : decode cc g.pc = .ok (.invokevirtual index, 3)) (hf : cells + mc ≤ R.cells ∧ slots + ms ≤ R.slots) :
    CallRun p l e R s m args below meth c H locs cells slots mc ms g rest (Qc (Value.ref b :: As).toArray) (free) := by
  have hK : Back l R p e below s args y 3 16 (PreOf R mc ms Pc) (PostOf Qc mc ms free) := am_back cw.1 hM hp.1
  obtain ⟨⟨-, -, -, -, -, -, hcode, -, hy, hlen, hl⟩, hin, hse⟩ := cw
  obtain ⟨hx, hb, hml, ho, -⟩ := S
  obtain ⟨-, ⟨cellB, hcB, hoB, hclB⟩, hPc⟩ := hp
  intro T hT X
  obtain ⟨v, vm₁, ⟨U', l2, c2, s2⟩, hW₁, X', ⟨g', mk, t, L, e1, e2, hq, h1, hL, h2, h3⟩, st⟩ := callV X hx (C := C) (bytes := bytes) (maxL := maxL) (ret := ret) ho hl hin hse hcode hy hK (by rw [hT]; exact hcB) hoB hclB hg (hsize.trans hml.symm) (argsL := As) (rest := rest) (fun sig h => hn.trans (hlen sig h)) hstack hW (by rw [hb]; exact hdg)
    (fun vm₁ hW₁ => ⟨hf.1, hf.2, hPc (T.setVm vm₁) hT hW₁⟩)
  dsimp only [Pt.U, Pt.locs, Pt.cells, Pt.slots] at X' e1 e2 h1 h2 h3 st
  subst h1; subst h2; subst h3
  exact ⟨v, (T.setVm vm₁).calling g' mk (Value.ref b :: As).toArray, t, U', L, hT, X', hL, e1, hq, st⟩
theorem am_runS {Ts : List Cond} (S : CallFix p m c cc nL s args Ts own) (hM : Met l y ws rm Pc Qc mc ms free) (cw : am_CB R s args own index y bytes maxL ret ws rm mc ms n ∧ (Cond.static y).before args s = true) (hp : PreS s H Pc As)
    (hg : g.method = m) (hn : As.length = n) (hsize : g.locals.size = nL) (hstack : g.stack = As.reverse ++ rest) (hW : 2 * g.monitorRoom + (rest.map fun v => v.category).sum ≤ 16) (hdg : decode cc g.pc = .ok (.invokestatic index, 3)) (hf : cells + mc ≤ R.cells ∧ slots + ms ≤ R.slots) :
    CallRun p l e R s m args below meth c H locs cells slots mc ms g rest (Qc As.toArray) (free) := by
  have hK : Back l R p e below s args y 3 16 (PreOf R mc ms Pc) (PostOf Qc mc ms free) := am_back cw.1 hM hp.1
  obtain ⟨⟨-, -, -, -, -, -, hcode, hini, hy, hlen, hl⟩, hstt⟩ := cw
  obtain ⟨hx, hb, hml, ho, -⟩ := S
  intro T hT X
  obtain ⟨v, vm₁, ⟨U', l2, c2, s2⟩, hW₁, X', ⟨g', mk, t, L, e1, e2, hq, h1, hL, h2, h3⟩, st⟩ := callS X hx (bytes := bytes) (maxL := maxL) (ret := ret) ho hl hstt hini hcode hy hK hg (hsize.trans hml.symm) (argsL := As) (rest := rest) (fun sig h => hn.trans (hlen sig h)) hstack hW (by rw [hb]; exact hdg)
    (fun vm₁ hW₁ => ⟨hf.1, hf.2, hp.2 (T.setVm vm₁) hT hW₁⟩)
  dsimp only [Pt.U, Pt.locs, Pt.cells, Pt.slots] at X' e1 e2 h1 h2 h3 st
  subst h1; subst h2; subst h3
  exact ⟨v, (T.setVm vm₁).calling g' mk As.toArray, t, U', L, hT, X', hL, e1, hq, st⟩
end AMR
theorem am_room16 {m : MethodId} {pc : Nat} {ls : Array Slot} {rest st : List Value} (h : (st.map fun v => v.category).sum ≤ 16) : 2 * (F0 m pc ls rest).monitorRoom + (st.map fun v => v.category).sum ≤ 16 := by
  show 2 * 0 + _ ≤ 16
  omega
section AMC
variable {p : Program} {l : Launch} {e : Env} {R : Room} {s : State} {m : MethodId} {args : Array Value} {below : List Frame} {meth : Method} {c : Code} {QQ : State → Prop} {w : AW} {G : AG} {cells slots nL : Nat}
variable {cc : ByteArray} {pc : Nat} {L : List (Nat × AV)} {S : List AV} {σ : AMem}
theorem am_copyB (hx : p.tables.exec = Jvm.exec) (hb : c.code = cc) (hml : c.maxLocals = nL) {own : String} {index : Nat} (hown : s.vm.findClass own = some m.cls) (hlink : (Cond.methodLink own index arraycopyName).before args s = true) (hnat : (Cond.native arraycopyName).before args s = true) (hstat : (Cond.static arraycopyName).before args s = true) (hini : (Cond.initialized "java/lang/System").before args s = true)
    (hK : am_K w s) {a d sp dp n : Int} (hGa : G.1 a = 2) (hGd : G.1 d = 2) (h1 : 0 ≤ sp) (h2 : 0 ≤ dp) (h3 : 0 ≤ n) (h4 : sp + n ≤ G.2.1 a) (h5 : dp + n ≤ G.2.1 d)
    (hframes : 1 ≤ R.frames) (hlocals : (S.map fun v => (am_val w.1 v).category).sum + (nativeFrameWords "java/lang/System" "arraycopy" 5 + 11) ≤ R.locals) (hd : decode cc pc = .ok (.invokestatic index, 3))
    (kk : am_M p l e R s m args below meth c QQ w G cells slots nL (pc + 3) L S (am_cp σ a sp d dp n)) : am_M p l e R s m args below meth c QQ w G cells slots nL pc L ((0, n) :: (0, dp) :: (2, d) :: (0, sp) :: (2, a) :: S) σ := by
  intro H locs ls r1 r2 r3 r4 r5 r6 r7
  obtain ⟨ha, ga1, ga2, hc0, ga4, ga5⟩ := am_arr (t := .byte) hK r1 hGa (by omega) rfl
  obtain ⟨hdd, gd1, gd2, hc1, gd4, gd5⟩ := am_arr (t := .byte) hK r1 hGd (by omega) rfl
  have o1 : am_r32 n := am_hd r7
  have o2 : am_r32 dp := am_hd (am_tl r7)
  have o3 : am_r32 sp := am_hd (am_tl (am_tl (am_tl r7)))
  obtain ⟨i1, i2⟩ := am_ixr h1 o3
  obtain ⟨j1, j2⟩ := am_ixr h2 o2
  obtain ⟨k1, k2⟩ := am_ixr h3 o1
  rw [List.map_cons, List.map_cons, List.map_cons, List.map_cons, List.map_cons, am_val2 _ (show a ≠ 0 by omega), am_val2 _ (show d ≠ 0 by omega)]
  intro T hT X
  obtain ⟨-, k0, hk0, cm0, hkk0⟩ := id ga5
  obtain ⟨-, k9, hk9, cm9, hkk9⟩ := id gd5
  obtain ⟨vm', X', step⟩ := X.arraycopy hx hown hlink hnat hstat hini (src := am_adr w.1 a) (dst := am_adr w.1 d) (srcPos := Int32.ofInt sp) (destPos := Int32.ofInt dp) (n := Int32.ofInt n) (by rw [hT]; exact hc0) (by rw [hT]; exact hc1)
    (fun _ h => by cases h) (fun _ h => by cases h) (fun h => by cases h) (fun h => by cases h) hk0 hk9 hkk0 hkk9 (by simp [refKind]) i2 j2 k2
    (by rw [am_t32 o3, am_t32 o1, arrV_size]; omega)
    (by rw [am_t32 o2, am_t32 o1, arrV_size]; omega)
    (fun vm₁ _ i hi => by
      rw [k1] at hi
      have e : (arrV (w.2.2 2) (G.2.1 a).toNat (fun j => am_val w.1 (am_tag .byte, σ a j))).slots.getD ((Int32.ofInt sp).toNatClampNeg + i) .null = am_val w.1 (am_tag .byte, σ a ((sp.toNat + i : Nat) : Int)) := by
        rw [Array.getD_eq_getD_getElem?, i1, arrV_read _ _ (by omega)]
        rfl
      refine ⟨?_, ?_⟩
      · rw [e]
        exact (am_fit (ga4 _ (by omega) (by omega))).2
      · rw [e]
        exact trivial)
    (g := F0 m pc ls (am_val w.1 (0, n) :: am_val w.1 (0, dp) :: .ref (am_adr w.1 d) :: am_val w.1 (0, sp) :: .ref (am_adr w.1 a) :: S.map (am_val w.1))) rfl (by rw [hml]; exact r5.1) (rest := S.map (am_val w.1)) rfl (by rw [hb]; exact hd) hframes (by show 2 * 0 + _ + _ ≤ _; rw [List.map_map]; rw [show ((fun v : Value => v.category) ∘ am_val w.1) = (fun v => (am_val w.1 v).category) from rfl]; omega)
  have e1 : copied (arrV (w.2.2 2) (G.2.1 a).toNat (fun j => am_val w.1 (am_tag .byte, σ a j))) (arrV (w.2.2 2) (G.2.1 d).toNat (fun j => am_val w.1 (am_tag .byte, σ d j))) (Int32.ofInt sp) (Int32.ofInt dp) (Int32.ofInt n) = arrV (w.2.2 2) (G.2.1 d).toNat (fun j => am_val w.1 (am_tag .byte, am_cp σ a sp d dp n d j)) := by
    refine (va_copied (fun z : Int => am_val w.1 (am_tag .byte, z)) (w.2.2 2) (w.2.2 2) (fun j : Nat => σ a j) (fun j : Nat => σ d j) (by rw [i1, k1]; omega)).trans ?_
    congr 1
    funext j
    rw [i1, j1, k1]
    unfold va_cpy am_cp
    rw [if_pos rfl]
    by_cases hj : dp.toNat ≤ j ∧ j < dp.toNat + n.toNat
    · rw [if_pos hj, if_pos (by omega)]
      show am_val w.1 (am_tag .byte, σ a ((sp.toNat + (j - dp.toNat) : Nat) : Int)) = _
      rw [show ((sp.toNat + (j - dp.toNat) : Nat) : Int) = sp + ((j : Int) - dp) by omega]
    · rw [if_neg hj, if_neg (by omega)]
  rw [e1] at X' step
  have hl : am_adr w.1 d < H.size := (Array.getElem?_eq_some_iff.mp hc1).1
  have oq : ∀ z : Nat, z ≠ am_adr w.1 d → (H.setIfInBounds (am_adr w.1 d) (arrV (w.2.2 2) (G.2.1 d).toNat (fun j => am_val w.1 (am_tag .byte, am_cp σ a sp d dp n d j))))[z]? = H[z]? := fun z hz => by simp [Array.getElem?_setIfInBounds, Ne.symm hz]
  have hrep : am_rep w G (am_cp σ a sp d dp n) (H.setIfInBounds (am_adr w.1 d) (arrV (w.2.2 2) (G.2.1 d).toNat (fun j => am_val w.1 (am_tag .byte, am_cp σ a sp d dp n d j)))) := by
    refine am_rep_to r1 (a := d) (by omega) (fun a' h => by funext j; unfold am_cp; rw [if_neg h]) oq (fun _ => ?_) (fun h => by omega)
    refine ⟨.byte, by rw [hGd]; rfl, gd1, gd2, ?_, fun j q1 q2 => ?_⟩
    · rw [hGd]; simp [Array.getElem?_setIfInBounds, hl]
    · unfold am_cp
      rw [if_pos rfl]
      by_cases hj : dp ≤ j ∧ j < dp + n
      · rw [if_pos hj]; exact ga4 _ (by omega) (by omega)
      · rw [if_neg hj]; exact gd4 j q1 q2
  obtain ⟨t, a1, b1⟩ := kk _ _ ls hrep (fun z hz => by
      rcases List.mem_append.mp hz with h | h
      · exact r2 z h
      · obtain ⟨i, -, rfl⟩ := List.mem_map.mp h
        show w.1 ≤ am_adr w.1 d
        unfold am_adr; omega) (by simp; exact r3) (fun z hz => by rw [oq z (am_lt_adr hz)]; exact r4 z hz) r5 r6 (am_tl (am_tl (am_tl (am_tl (am_tl r7))))) _ (by rw [← hT]; rfl) X'
  exact ⟨t, step t a1, b1⟩
theorem am_ret0 {Q : Int → AMem → Prop} {x : Int} {ty : FieldType} {rt : Nat} (hx : p.tables.exec = Jvm.exec) (hb : c.code = cc) (hlk : meth.locks = false) (hK : am_K w s) (hr : meth.sig.returnType = some ty) (hn : narrow ty (.int (Int32.ofInt x)) = .int (Int32.ofInt x)) (hd : decode cc pc = .ok (.ireturn, 1)) (hq : Q x σ) :
    am_M p l e R s m args below meth c (MQ below (am_Qc w G 0 Q) args s cells slots (fun q => w.1 ≤ q)) w G cells slots nL pc L [(0, x)] σ :=
  fun H locs ls r1 r2 r3 r4 r5 r6 r7 => W.zret hx hb hr hn (fun t ht hW => ⟨x, σ, rfl, by rw [ht]; exact r1, hK.moved hW, fun _ => am_hd r7, hq, by rw [ht]; exact r3, fun q hq => by rw [ht]; exact r4 q hq⟩) r2 hd hlk
theorem am_ret1 {Q : Int → AMem → Prop} {x : Int} (hx : p.tables.exec = Jvm.exec) (hb : c.code = cc) (hlk : meth.locks = false) (hK : am_K w s) (hr : meth.sig.returnType = some .long) (hd : decode cc pc = .ok (.lreturn, 1)) (hq : Q x σ) :
    am_M p l e R s m args below meth c (MQ below (am_Qc w G 1 Q) args s cells slots (fun q => w.1 ≤ q)) w G cells slots nL pc L [(1, x)] σ :=
  fun H locs ls r1 r2 r3 r4 r5 r6 r7 => W.lret hx hb hr (fun t ht hW => ⟨x, σ, rfl, by rw [ht]; exact r1, hK.moved hW, fun _ => am_hd r7, hq, by rw [ht]; exact r3, fun q hq => by rw [ht]; exact r4 q hq⟩) r2 hd hlk
theorem am_ret2 {Q : Int → AMem → Prop} {x : Int} {ty : FieldType} (hx : p.tables.exec = Jvm.exec) (hb : c.code = cc) (hlk : meth.locks = false) (hK : am_K w s) (hr : meth.sig.returnType = some ty) (hty : (∃ n, ty = .object n) ∨ ∃ t, ty = .array t) (hd : decode cc pc = .ok (.areturn, 1)) (hq : Q x σ) :
    am_M p l e R s m args below meth c (MQ below (am_Qc w G 2 Q) args s cells slots (fun q => w.1 ≤ q)) w G cells slots nL pc L [(2, x)] σ :=
  fun H locs ls r1 r2 r3 r4 r5 r6 r7 => W.aret (v := am_val w.1 (2, x)) hx hb hr hty (by
      by_cases h : x = 0
      · subst h; exact Or.inl rfl
      · exact Or.inr ⟨_, am_val2 _ h⟩) (fun t ht hW => ⟨x, σ, rfl, by rw [ht]; exact r1, hK.moved hW, fun _ => am_hd r7, hq, by rw [ht]; exact r3, fun q hq => by rw [ht]; exact r4 q hq⟩) r2 hd hlk
theorem am_ret3 {Q : Int → AMem → Prop} (hx : p.tables.exec = Jvm.exec) (hb : c.code = cc) (hlk : meth.locks = false) (hK : am_K w s) (hr : meth.sig.returnType = none) (hd : decode cc pc = .ok (.return_, 1)) (hq : Q 0 σ) :
    am_M p l e R s m args below meth c (MQ below (am_Qc w G 3 Q) args s cells slots (fun q => w.1 ≤ q)) w G cells slots nL pc L [] σ :=
  fun H locs ls r1 r2 r3 r4 r5 r6 r7 => W.vret hx hb hr (fun t ht hW => ⟨0, σ, rfl, by rw [ht]; exact r1, hK.moved hW, fun h => absurd rfl h, hq, by rw [ht]; exact r3, fun q hq => by rw [ht]; exact r4 q hq⟩) r2 hd hlk
/-- what the operand stack is behind a call -/
def am_psh (rt : Nat) (x : Int) (S : List AV) : List AV := if rt = 3 then S else (rt, x) :: S
theorem am_ofRun {H : Heap} {locs : List Loc} {ls : Array Slot} {st0 : List Value} {rt : Nat} {Q : Int → AMem → Prop} {a : Array Value} (hr : CallRun p l e R s m args below meth c H locs cells slots 0 0 (F0 m pc ls st0) (S.map (am_val w.1)) (am_Qc w G rt Q a) (fun q => w.1 ≤ q))
    (r2 : ∀ q ∈ locs, w.1 ≤ q.base) (r3 : s.heap.size ≤ H.size) (r4 : ∀ q, q < w.1 → H[q]? = s.heap[q]?) (r5 : lv_has ls nL (L.map (am_lv w.1))) (r6 : ∀ q ∈ L, am_ok q.2) (r7 : ∀ v ∈ S, am_ok v)
    (kk : ∀ (x : Int) (σ' : AMem), Q x σ' → am_M p l e R s m args below meth c QQ w G cells slots nL (pc + 3) L (am_psh rt x S) σ') : W p l e R s m args below meth c H locs cells slots QQ (F0 m pc ls st0) := by
  intro T hT X
  obtain ⟨v, st₀, t, T', Lc, h0, X', hL, e1, ⟨x, σ', hv, hrep, hK, hok, hq, hz, hk⟩, st⟩ := hr T hT X
  have hv' : v = am_rv w.1 rt x := by injection hv
  subst hv'
  have hS : ∀ v ∈ am_psh rt x S, am_ok v := by
    unfold am_psh
    by_cases h3 : rt = 3
    · rw [if_pos h3]; exact r7
    · rw [if_neg h3]; exact am_ok2 (hok h3) r7
  have hst : (am_rv w.1 rt x).toList ++ S.map (am_val w.1) = (am_psh rt x S).map (am_val w.1) := by
    unfold am_psh am_rv
    by_cases h3 : rt = 3
    · rw [if_pos h3, if_pos h3]; rfl
    · rw [if_neg h3, if_neg h3]; rfl
  rw [h0] at hz hk
  obtain ⟨t2, a1, b1⟩ := kk x σ' hq T'.heap (locs ++ Lc) ls (by rw [e1]; exact hrep) (fun z hz => by
      rcases List.mem_append.mp hz with h | h
      · exact r2 z h
      · exact hL z h) (by rw [e1]; exact Nat.le_trans r3 hz) (fun z hz => by rw [e1, hk z hz]; exact r4 z hz) r5 r6 hS T' rfl X'
  refine ⟨t2, st t2 ?_, b1⟩
  show Steps p.tables e below (T'.setTop { F0 m pc ls st0 with pc := pc + 3, stack := (am_rv w.1 rt x).toList ++ S.map (am_val w.1) }) t2
  rw [hst]
  exact a1
theorem am_zipOK {tags : List Nat} {xs : List Int} {S : List AV} (h : ∀ v ∈ (List.zip tags xs).reverse ++ S, am_ok v) : ∀ v ∈ List.zip tags xs, am_ok v := fun v hv => h v (List.mem_append_left _ (List.mem_reverse.mpr hv))
theorem am_blind (w : AW) (G : AG) (tags : List Nat) (xs : List Int) (σ : AMem) : FrameBlind (am_Pc w G tags xs σ) := fun a U g mk q => ⟨q.1, q.2.1, q.2.2.1, by
    refine ⟨va_K.moved (u := U) (U := U.calling g mk a) (Vm.Alike.refl U.vm) q.2.2.2.1, fun z hz => ?_⟩
    have h1 := q.2.2.2.2 z hz
    have h2 := (List.mem_filter.mp hz).2
    unfold am_isN at h2
    split at h2
    · exact va_tabs (A := #[]) (u := U) rfl rfl h1
    · exact va_tabs (A := #[]) (u := U) rfl rfl h1
    · cases h2⟩
theorem am_catS (b : Nat) (S : List AV) : ((S.map (am_val b)).map fun v => v.category).sum = (S.map fun v => if v.1 = 1 then 2 else 1).sum := by
  rw [List.map_map]; congr 1
  exact List.map_congr_left fun v _ => am_cat b v
theorem am_callS (hx : p.tables.exec = Jvm.exec) (hb : c.code = cc) (hml : c.maxLocals = nL) {own : String} {index : Nat} (hown : s.vm.findClass own = some m.cls) (hT : ∀ q ∈ am_tbl, q.before args s = true) (hK : am_K w s)
    (ac : AC) (hS : am_S l w G ac) (hst : ac.2.2.2.2.1 = true) (hlink : Cond.methodLink own index ac.2.1.1 ∈ am_tbl) {xs : List Int} (hlen : xs.length = ac.2.2.1.length) (hrc : ac.2.2.2.2.2.1.cells = 0) (hrs : ac.2.2.2.2.2.1.slots = 0) (hR1 : ac.2.2.2.2.2.1.frames + 1 ≤ R.frames) (hR2 : 16 + (ac.2.1.2.2.1 + 11) + ac.2.2.2.2.2.1.locals ≤ R.locals) (hc1 : cells ≤ R.cells) (hc2 : slots ≤ R.slots)
    (h8 : (S.map fun v => if v.1 = 1 then 2 else 1).sum ≤ 16) (hd : decode cc pc = .ok (.invokestatic index, 3)) {Qn : Int → AMem → Prop} (k : ac.2.2.2.2.2.2 xs σ Qn) (kk : ∀ x σ', Qn x σ' → am_M p l e R s m args below meth c QQ w G cells slots nL (pc + 3) L (am_psh ac.2.2.2.1 x S) σ') : am_M p l e R s m args below meth c QQ w G cells slots nL pc L ((List.zip ac.2.2.1 xs).reverse ++ S) σ := by
  intro H locs ls r1 r2 r3 r4 r5 r6 r7
  obtain ⟨⟨m1, m2, m3, m4⟩, hM⟩ := hS
  rw [if_pos hst] at m4
  have hM1 := hM xs σ _ k hlen
  have hpay := am_pay hT
  have hcode : (Cond.code ac.2.1.1 ac.2.1.2.1 ac.2.1.2.2.1 ac.2.1.2.2.2).before args s = true := hT _ m1
  have hn : (am_vals w.1 ac.2.2.1 xs).length = ac.2.2.1.length := by unfold am_vals; simp [List.length_zip, hlen]
  refine am_ofRun (am_runS (As := am_vals w.1 ac.2.2.1 xs) (n := ac.2.2.1.length) (nL := nL) (Ts := am_tbl) ⟨hx, hb, hml, hown, hT⟩ hM1 ⟨⟨hrc, hrs, hR1, hR2, fun z hz => ?_, List.mem_cons_self, hcode, hT _ m2, m3, fun sig h => ?_, hT _ hlink⟩, hT _ m4.1⟩ ⟨am_blind _ _ _ _ _, fun U hU hW => ⟨rfl, am_zipOK r7, by rw [hU]; exact r1, hK.moved hW⟩⟩ rfl hn r5.1 ?_ ?_ hd ⟨by omega, by omega⟩) r2 r3 r4 r5 r6 (fun v hv => r7 v (List.mem_append_right _ hv)) kk
  · rcases List.mem_cons.mp hz with rfl | hz
    · exact hpay _ m1
    · exact hpay z hz
  · have h2 := m4.2
    rw [h] at h2
    exact (Option.some.inj h2).symm
  · show ((List.zip ac.2.2.1 xs).reverse ++ S).map (am_val w.1) = _
    rw [List.map_append, List.map_reverse]; rfl
  · exact am_room16 (by rw [am_catS]; exact h8)
theorem am_callV (hx : p.tables.exec = Jvm.exec) (hb : c.code = cc) (hml : c.maxLocals = nL) {own : String} {index : Nat} (hown : s.vm.findClass own = some m.cls) (hT : ∀ q ∈ am_tbl, q.before args s = true) (hK : am_K w s)
    (ac : AC) (hS : am_S l w G ac) (hst : ac.2.2.2.2.1 = false) (hlink : Cond.methodLink own index ac.2.1.1 ∈ am_tbl) {o : Int} {ci : Nat} {q : vw_C} (hq : cls9[ci]? = some q) (hqc : q.1 = ac.2.1.1.cls) (hG : G.1 o = 20 + ci) {xs : List Int} (hlen : (o :: xs).length = ac.2.2.1.length) (hrc : ac.2.2.2.2.2.1.cells = 0) (hrs : ac.2.2.2.2.2.1.slots = 0) (hR1 : ac.2.2.2.2.2.1.frames + 1 ≤ R.frames) (hR2 : 16 + (ac.2.1.2.2.1 + 11) + ac.2.2.2.2.2.1.locals ≤ R.locals) (hc1 : cells ≤ R.cells) (hc2 : slots ≤ R.slots)
    (h8 : (S.map fun v => if v.1 = 1 then 2 else 1).sum ≤ 16) (hd : decode cc pc = .ok (.invokevirtual index, 3)) {Qn : Int → AMem → Prop} (k : ac.2.2.2.2.2.2 (o :: xs) σ Qn) (kk : ∀ x σ', Qn x σ' → am_M p l e R s m args below meth c QQ w G cells slots nL (pc + 3) L (am_psh ac.2.2.2.1 x S) σ') : am_M p l e R s m args below meth c QQ w G cells slots nL pc L ((List.zip ac.2.2.1 (o :: xs)).reverse ++ S) σ := by
  intro H locs ls r1 r2 r3 r4 r5 r6 r7
  obtain ⟨⟨m1, m2, m3, m4⟩, hM⟩ := hS
  rw [if_neg (by rw [hst]; decide)] at m4
  obtain ⟨m5, m6, tg, ci', q', etg, hq', hqc', hpar⟩ := m4
  have hM1 := hM (o :: xs) σ _ k hlen
  have hpay := am_pay hT
  have hcode : (Cond.code ac.2.1.1 ac.2.1.2.1 ac.2.1.2.2.1 ac.2.1.2.2.2).before args s = true := hT _ m1
  rw [etg] at hlen r7 hM1 ⊢
  simp only [List.length_cons] at hlen
  have hn : (am_vals w.1 tg xs).length = tg.length := by unfold am_vals; simp [List.length_zip]; omega
  obtain ⟨ho1, -, hO⟩ := r1 o (by omega)
  obtain ⟨q2, hq2, hOB, -⟩ := hO (by omega)
  have e1 : G.1 o - 20 = ci := by omega
  rw [e1] at hq2 hOB
  obtain ⟨cellB, f1, f2, f3, -⟩ := hOB
  have hvals : (am_vals w.1 (2 :: tg) (o :: xs)) = .ref (am_adr w.1 o) :: am_vals w.1 tg xs := by
    show am_val w.1 (2, o) :: _ = _
    rw [am_val2 _ (by omega)]; rfl
  have hcls := (hK.1.1 ci q hq).2
  unfold am_Pc at hM1
  rw [hvals] at hM1
  refine am_ofRun (am_runV (C := ac.2.1.1.cls) (b := am_adr w.1 o) (As := am_vals w.1 tg xs) (n := tg.length) (nL := nL) (Ts := am_tbl) ⟨hx, hb, hml, hown, hT⟩ hM1 ⟨⟨hrc, hrs, hR1, hR2, fun z hz => ?_, List.mem_cons_self, hcode, hT _ m2, m3, fun sig h => ?_, hT _ hlink⟩, hT _ m5, hT _ m6⟩ ⟨?_, ⟨cellB, f1, by rw [f3]; rfl, by rw [f2, ← hqc]; exact hcls.1⟩, fun U hU hW => ⟨rfl, am_zipOK r7, by rw [hU]; exact r1, hK.moved hW⟩⟩ rfl hn r5.1 ?_ ?_ hd ⟨by omega, by omega⟩) r2 r3 r4 r5 r6 (fun v hv => r7 v (List.mem_append_right _ hv)) kk
  · rcases List.mem_cons.mp hz with rfl | hz
    · exact hpay _ m1
    · exact hpay z hz
  · rw [h] at hpar
    exact (Option.some.inj hpar).symm
  · have h := am_blind w G (2 :: tg) (o :: xs) σ
    unfold am_Pc at h
    rw [hvals] at h
    exact h
  · show ((List.zip (2 :: tg) (o :: xs)).reverse ++ S).map (am_val w.1) = _
    rw [List.map_append, List.map_reverse]
    show (am_vals w.1 (2 :: tg) (o :: xs)).reverse ++ _ = _
    rw [hvals, List.reverse_cons, List.append_assoc]; rfl
  · exact am_room16 (by rw [am_catS]; exact h8)
end AMC
