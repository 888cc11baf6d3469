/-! THE ABSTRACT MACHINE, part 7: what is checked of a method's list of instructions, and soundness -/
def am_rtag (ret : Option FieldType) : Nat := match ret with
  | none => 3
  | some t => am_tag t
def am_isS (i : Instr) : Bool := match i with
  | .invokestatic _ => true
  | _ => false
def am_tgt (pc : Nat) (off : Int) : Bool := decide (0 ≤ (pc : Int) + off)
def am_fchk (own : String) (idx r1 r2 : Nat) (r3 : List Nat) : Bool := match cls9[r1]? with
  | none => false
  | some q => decide (r2 < q.2.2) && decide (r3.headD 0 = am_tag (am_ft r1 r2)) && (decide (am_wd (r3.tail.tail.headD 0) = some (.fieldLink own idx q.1 (q.2.1 r2).2.1 (q.2.1 r2).2.2.1)) || decide (am_wd (r3.tail.tail.headD 0) = some (.fieldLinkNest own idx q.1 (q.2.1 r2).2.1 (q.2.1 r2).2.2.1 "LinkHouse")))
def am_pchk (r1 r2 : Nat) (r3 : List Nat) : Bool := match cls9[r1]? with
  | none => false
  | some q => decide ((q.2.1 r2).2.2.2 = false) && (match am_ft r1 r2 with
    | .int => true
    | .long => true
    | .object _ => true
    | .array _ => true
    | .boolean => decide (r3.tail.headD 0 ≠ 0)
    | _ => false)
def am_chkI (own : String) (nL : Nat) (ret : Option FieldType) (cal : List AC) (pc : Nat) (i : Instr) (n r1 r2 : Nat) (r3 : List Nat) : Bool := match i with
  | .iconst k => decide (n = 1) && decide (-2147483648 ≤ k ∧ k ≤ 2147483647)
  | .bipush k => decide (n = 2) && decide (-128 ≤ k ∧ k ≤ 127)
  | .sipush k => decide (n = 3) && decide (-32768 ≤ k ∧ k ≤ 32767)
  | .ldc idx => decide (n = 2) && decide (-2147483648 ≤ am_sg r1 r2 ∧ am_sg r1 r2 ≤ 2147483647) && decide (am_wd (r3.headD 0) = some (.constant own idx (Int32.ofInt (am_sg r1 r2))))
  | .ldc_w idx => decide (n = 3) && decide (-2147483648 ≤ am_sg r1 r2 ∧ am_sg r1 r2 ≤ 2147483647) && decide (am_wd (r3.headD 0) = some (.constant own idx (Int32.ofInt (am_sg r1 r2))))
  | .ldc2_w idx => decide (n = 3) && decide (-9223372036854775808 ≤ am_sg r1 r2 ∧ am_sg r1 r2 ≤ 9223372036854775807) && decide (am_wd (r3.headD 0) = some (.constantLong own idx (Int64.ofInt (am_sg r1 r2))))
  | .iload _ => decide (n = 2)
  | .lload _ => decide (n = 2)
  | .aload _ => decide (n = 2)
  | .istore j => decide (n = 2 ∧ j < nL)
  | .istore_n j => decide (n = 1 ∧ j.val < nL)
  | .lstore j => decide (n = 2 ∧ j + 1 < nL)
  | .lstore_n j => decide (n = 1 ∧ j.val + 1 < nL)
  | .astore j => decide (n = 2 ∧ j < nL)
  | .astore_n j => decide (n = 1 ∧ j.val < nL)
  | .iinc j _ => decide (n = 3 ∧ j < nL)
  | .if_icmp _ off => decide (n = 3) && am_tgt pc off
  | .ifCond _ off => decide (n = 3) && am_tgt pc off
  | .ifnull off => decide (n = 3) && am_tgt pc off
  | .ifnonnull off => decide (n = 3) && am_tgt pc off
  | .if_acmp _ off => decide (n = 3) && am_tgt pc off
  | .goto off => decide (n = 3) && am_tgt pc off
  | .tableswitch dflt lo hi offs => am_tgt pc dflt && offs.toList.all (am_tgt pc) && decide (hi + 1 = lo + offs.size)
  | .getfield idx => decide (n = 3) && am_fchk own idx r1 r2 r3
  | .putfield idx => decide (n = 3) && am_fchk own idx r1 r2 r3 && am_pchk r1 r2 r3
  | .baload => decide (n = 1 ∧ (r1 = 2 ∨ r1 = 3))
  | .bastore => decide (n = 1 ∧ (r1 = 2 ∨ r1 = 3))
  | .aaload => decide (n = 1) && (match am_ak[r1 - 1]? with
    | none => false
    | some t => decide (1 ≤ r1 ∧ t.isReference = true ∧ am_tag t = 2))
  | .aastore => decide (n = 1) && (match cls9[r2]? with
    | none => false
    | some q => decide (1 ≤ r1 ∧ r1 < 20 ∧ am_ak[r1 - 1]? = some (.object q.1)))
  | .arraylength => decide (n = 1 ∧ 1 ≤ r1 ∧ r1 ≤ 9)
  | .ireturn => decide (n = 1) && (if r1 = 0 then decide (ret = some .int) else decide (ret = some .boolean))
  | .lreturn => decide (n = 1 ∧ ret = some .long)
  | .areturn => decide (n = 1) && (match ret with
    | some (.object _) => true
    | some (.array _) => true
    | _ => false)
  | .return_ => decide (n = 1 ∧ ret = none)
  | .invokestatic idx => decide (n = 3) && (if r1 = 9999 then decide (am_wd (r3.headD 0) = some (.methodLink own idx arraycopyName)) else if r1 = 9991 then decide (am_wd (r3.headD 0) = some (.methodLink own idx Lib.Math.min.name)) else if r1 = 9992 then decide (am_wd (r3.headD 0) = some (.methodLink own idx Lib.MathLoose.min_long.x)) else if r1 = 9993 then decide (am_wd (r3.headD 0) = some (.methodLink own idx Lib.MathLoose.max_long.x)) else cal.all (fun a => decide (a.1 ≠ r1) || (a.2.2.2.2.1 && decide (am_wd (r3.headD 0) = some (.methodLink own idx a.2.1.1)))))
  | .invokevirtual idx => decide (n = 3) && (match cls9[r2]? with
    | none => false
    | some q => cal.all (fun a => decide (a.1 ≠ r1) || (!a.2.2.2.2.1 && decide (q.1 = a.2.1.1.cls) && decide (am_wd (r3.headD 0) = some (.methodLink own idx a.2.1.1)))))
  | _ => decide (n = 1)
def am_chk (own : String) (cc : ByteArray) (nL : Nat) (ret : Option FieldType) (cal : List AC) (e : aE) : Bool := decide (decode cc e.1 = .ok (e.2.2.1, e.2.2.2.1)) && am_chkI own nL ret cal e.1 e.2.2.1 e.2.2.2.1 e.2.2.2.2.1 e.2.2.2.2.2.1 e.2.2.2.2.2.2
def am_chkR (rm : Room) (cal : List AC) : Bool := cal.all (fun a => decide (a.2.2.2.2.2.1.cells = 0 ∧ a.2.2.2.2.2.1.slots = 0 ∧ a.2.2.2.2.2.1.frames + 1 ≤ rm.frames ∧ 16 + (a.2.1.2.2.1 + 11) + a.2.2.2.2.2.1.locals ≤ rm.locals))
theorem am_p1_of {t : Nat} {S : List AV} {k : Int → List AV → Prop} (h : am_p1 t S k) : ∃ x S', S = (t, x) :: S' ∧ k x S' := by
  unfold am_p1 at h
  split at h
  · exact h.elim
  · rename_i v S'
    by_cases e : v.1 = t
    · rw [if_pos e] at h
      exact ⟨v.2, S', by rw [← e], h⟩
    · rw [if_neg e] at h; exact h.elim
theorem am_lkt_of {L : List (Nat × AV)} {i t : Nat} {k : Int → Prop} (h : am_lkt L i t k) : ∃ x, am_lk L i = some (t, x) ∧ k x := by
  unfold am_lkt at h
  split at h
  · exact h.elim
  · rename_i v hv
    by_cases e : v.1 = t
    · rw [if_pos e] at h
      exact ⟨v.2, by rw [hv, ← e], h⟩
    · rw [if_neg e] at h; exact h.elim
theorem am_if_of {c : Prop} [Decidable c] {A : Prop} (h : if c then A else False) : c ∧ A := by
  by_cases e : c
  · rw [if_pos e] at h; exact ⟨e, h⟩
  · rw [if_neg e] at h; exact h.elim
theorem am_ifN_of {c : Prop} [Decidable c] {A : Prop} (h : if c then False else A) : ¬ c ∧ A := by
  by_cases e : c
  · rw [if_pos e] at h; exact h.elim
  · rw [if_neg e] at h; exact ⟨e, h⟩
theorem am_pop_of : ∀ {ts : List Nat} {S : List AV} {acc : List Int} {k : List Int → List AV → Prop}, am_pop ts S acc k → ∃ ys S', ys.length = ts.length ∧ S = List.zip ts ys ++ S' ∧ k (ys.reverse ++ acc) S'
  | [], S, acc, k, h => ⟨[], S, rfl, rfl, h⟩
  | t :: ts, S, acc, k, h => by
    unfold am_pop at h
    split at h
    · exact h.elim
    · rename_i v S'
      obtain ⟨e, h⟩ := am_if_of h
      obtain ⟨ys, S2, h1, h2, h3⟩ := am_pop_of h
      refine ⟨v.2 :: ys, S2, by simp [h1], by rw [h2, ← e]; rfl, ?_⟩
      simpa using h3
theorem am_zip_rev {ts : List Nat} {ys : List Int} (h : ys.length = ts.length) : (List.zip ts.reverse ys.reverse).reverse = List.zip ts ys := by
  induction ts generalizing ys with
  | nil => cases ys with
    | nil => rfl
    | cons y ys => simp at h
  | cons t ts ih => cases ys with
    | nil => simp at h
    | cons y ys =>
      have h1 : ys.length = ts.length := by simpa using h
      rw [List.reverse_cons, List.reverse_cons, List.zip_append (by simp [h1]), List.reverse_append, ih h1]
      rfl
theorem am_call_of : ∀ {cal : List AC} {k : Nat} {g : List Int → Prop → Prop} {S : List AV} {σ : AMem} {nx : List AV → AMem → Prop}, am_call cal k g S σ nx → ∃ a ∈ cal, a.1 = k ∧ ∃ xs S', xs.length = a.2.2.1.length ∧ S = (List.zip a.2.2.1 xs).reverse ++ S' ∧ am_sz S' ≤ 16 ∧ g xs (a.2.2.2.2.2.2 xs σ (fun x σ' => nx (am_psh a.2.2.2.1 x S') σ'))
  | [], k, g, S, σ, nx, h => h.elim
  | a :: r, k, g, S, σ, nx, h => by
    unfold am_call at h
    by_cases e : a.1 = k
    · rw [if_pos e] at h
      obtain ⟨ys, S', h1, h2, h3⟩ := am_pop_of h
      obtain ⟨h4, h5⟩ := am_if_of h3
      rw [List.length_reverse] at h1
      rw [List.append_nil] at h5
      refine ⟨a, List.mem_cons_self, e, ys.reverse, S', by simp [h1], ?_, h4, h5⟩
      rw [h2]
      congr 1
      have := am_zip_rev (ts := a.2.2.1.reverse) (ys := ys) (by simp [h1])
      rw [List.reverse_reverse] at this
      exact this.symm
    · rw [if_neg e] at h
      obtain ⟨a', ha', rest⟩ := am_call_of h
      exact ⟨a', List.mem_cons_of_mem _ ha', rest⟩
theorem am_native : Cond.native arraycopyName ∈ am_tbl ∧ Cond.static arraycopyName ∈ am_tbl ∧ Cond.initialized "java/lang/System" ∈ am_tbl := by
  have h : tables_1[694]? = some (Cond.native arraycopyName) ∧ tables_1[693]? = some (Cond.static arraycopyName) ∧ tables_1[15]? = some (Cond.initialized "java/lang/System") := by decide +kernel
  exact ⟨am_in_tbl (List.mem_of_getElem? h.1) rfl, am_in_tbl (List.mem_of_getElem? h.2.1) rfl, am_in_tbl (List.mem_of_getElem? h.2.2) rfl⟩
theorem am_nfw : nativeFrameWords "java/lang/System" "arraycopy" 5 = 7 := rfl
theorem am_math : (Cond.code Lib.Math.min.name Lib.Math.min.code 2 (some .int) ∈ am_tbl ∧ Cond.static Lib.Math.min.name ∈ am_tbl) ∧ (Cond.code Lib.MathLoose.min_long.x Lib.MathLoose.min_long.code 4 (some .long) ∈ am_tbl ∧ Cond.static Lib.MathLoose.min_long.x ∈ am_tbl) ∧ (Cond.code Lib.MathLoose.max_long.x Lib.MathLoose.max_long.code 4 (some .long) ∈ am_tbl ∧ Cond.static Lib.MathLoose.max_long.x ∈ am_tbl) ∧ Cond.initialized "java/lang/Math" ∈ am_tbl := by
  have h : tables_1[1033]? = some (Cond.code Lib.Math.min.name Lib.Math.min.code 2 (some .int)) ∧ tables_1[1032]? = some (Cond.static Lib.Math.min.name) ∧ tables_1[728]? = some (Cond.code Lib.MathLoose.min_long.x Lib.MathLoose.min_long.code 4 (some .long)) ∧ tables_1[727]? = some (Cond.static Lib.MathLoose.min_long.x) ∧ tables_1[804]? = some (Cond.code Lib.MathLoose.max_long.x Lib.MathLoose.max_long.code 4 (some .long)) ∧ tables_1[803]? = some (Cond.static Lib.MathLoose.max_long.x) ∧ tables_1[16]? = some (Cond.initialized "java/lang/Math") := by decide +kernel
  obtain ⟨h1, h2, h3, h4, h5, h6, h7⟩ := h
  exact ⟨⟨am_in_tbl (List.mem_of_getElem? h1) rfl, am_in_tbl (List.mem_of_getElem? h2) rfl⟩, ⟨am_in_tbl (List.mem_of_getElem? h3) rfl, am_in_tbl (List.mem_of_getElem? h4) rfl⟩, ⟨am_in_tbl (List.mem_of_getElem? h5) rfl, am_in_tbl (List.mem_of_getElem? h6) rfl⟩, am_in_tbl (List.mem_of_getElem? h7) rfl⟩
theorem am_sw_of {x : Int} {jp : Int → Prop} {dflt : Int} : ∀ {offs : List Int} {lo : Int}, am_sw x jp dflt lo offs → (lo ≤ x ∧ x < lo + offs.length ∧ ∃ o, offs[(x - lo).toNat]? = some o ∧ jp o) ∨ ((x < lo ∨ lo + offs.length ≤ x) ∧ jp dflt)
  | [], lo, h => Or.inr ⟨by simp; omega, h⟩
  | o :: r, lo, h => by
    unfold am_sw at h
    by_cases e : x = lo
    · rw [if_pos e] at h
      exact Or.inl ⟨by omega, by simp; omega, o, by simp [e], h⟩
    · rw [if_neg e] at h
      rcases am_sw_of h with ⟨h1, h2, o', h3, h4⟩ | ⟨h1, h2⟩
      · refine Or.inl ⟨by omega, by simp; omega, o', ?_, h4⟩
        have e2 : (x - lo).toNat = (x - (lo + 1)).toNat + 1 := by omega
        rw [e2, List.getElem?_cons_succ]; exact h3
      · refine Or.inr ⟨?_, h2⟩
        simp only [List.length_cons]; omega
section AMS
variable {p : Program} {l : Launch} {e : Env} {R : Room} {s : State} {m : MethodId} {args : Array Value} {below : List Frame} {meth : Method} {c : Code} {w : AW} {G : AG} {nL : Nat}
variable {cc : ByteArray} {Q : Int → AMem → Prop} {own : String} {rt : Nat} {ret : Option FieldType} {cal : List AC}
theorem am_fl_of (hT : ∀ q ∈ am_tbl, q.before args s = true) (hK : am_K w s) {idx r1 r2 : Nat} {r3 : List Nat} (h : am_fchk own idx r1 r2 r3 = true) : ∃ q, cls9[r1]? = some q ∧ r2 < q.2.2 ∧ r3.headD 0 = am_tag (am_ft r1 r2) ∧ am_fl own idx q r2 args s := by
  unfold am_fchk at h
  split at h
  · cases h
  · rename_i q hq
    simp only [Bool.and_eq_true, decide_eq_true_eq, Bool.or_eq_true] at h
    obtain ⟨⟨h1, h2⟩, h3⟩ := h
    refine ⟨q, hq, h1, h2, ?_⟩
    rcases h3 with h3 | h3
    · exact Or.inl (hT _ (am_in_tbl (am_wd_in h3) rfl))
    · exact Or.inr ⟨_, va_Nw.use rfl (hK.2 _ (List.mem_filter.mpr ⟨am_wd_in h3, rfl⟩))⟩
theorem am_tgt_of {pc : Nat} {off : Int} (h : am_tgt pc off = true) : (pc : Int) + off = (((pc : Int) + off).toNat : Int) := by
  unfold am_tgt at h
  rw [decide_eq_true_eq] at h
  omega
theorem am_rmin {x y : Int} {P : Int → Prop} (hx : P x) (hy : P y) : P (am_min x y) := by unfold am_min; split <;> assumption
theorem am_rmax {x y : Int} {P : Int → Prop} (hx : P x) (hy : P y) : P (am_max x y) := by unfold am_max; split <;> assumption
theorem am_mminI {QQ : State → Prop} {cells slots pc index : Nat} {L : List (Nat × AV)} {S : List AV} {σ : AMem} {x y : Int} (hx : p.tables.exec = Jvm.exec) (hb : c.code = cc) (hml : c.maxLocals = nL) (hown : s.vm.findClass own = some m.cls) (hT : ∀ q ∈ am_tbl, q.before args s = true) (hlink : (Cond.methodLink own index Lib.Math.min.name).before args s = true) (hR : 1 ≤ R.frames ∧ 34 ≤ R.locals) (h8 : am_sz S ≤ 16) (hc : cells ≤ R.cells) (hs : slots ≤ R.slots) (hd : decode cc pc = .ok (.invokestatic index, 3))
    (k : am_M p l e R s m args below meth c QQ w G cells slots nL (pc + 3) L ((0, am_min x y) :: S) σ) : am_M p l e R s m args below meth c QQ w G cells slots nL pc L ((0, y) :: (0, x) :: S) σ := by
  intro H locs ls r1 r2 r3 r4 r5 r6 r7
  have ox : am_r32 x := am_hd (am_tl r7)
  have oy : am_r32 y := am_hd r7
  have h := k H locs ls r1 r2 r3 r4 r5 r6 (am_ok2 (am_ok32 (am_rmin ox oy)) (am_tl (am_tl r7)))
  refine va_mmin hx hb (hml.trans r5.1.symm) hown hlink (hT _ am_math.1.2) (hT _ am_math.2.2.2) (hT _ am_math.1.1) hR.1 (by rw [am_catS]; unfold am_sz at h8; omega) hc hs hd ?_
  rw [List.map_cons, am_val0] at h
  unfold am_min at h
  simp only [am_lt32 oy ox]
  by_cases q : y < x
  · rw [if_pos q] at h ⊢; exact h
  · rw [if_neg q] at h ⊢; exact h
theorem am_mminL {QQ : State → Prop} {cells slots pc index : Nat} {L : List (Nat × AV)} {S : List AV} {σ : AMem} {x y : Int} (hx : p.tables.exec = Jvm.exec) (hb : c.code = cc) (hml : c.maxLocals = nL) (hown : s.vm.findClass own = some m.cls) (hT : ∀ q ∈ am_tbl, q.before args s = true) (hlink : (Cond.methodLink own index Lib.MathLoose.min_long.x).before args s = true) (hR : 1 ≤ R.frames ∧ 34 ≤ R.locals) (h8 : am_sz S ≤ 16) (hc : cells ≤ R.cells) (hs : slots ≤ R.slots) (hd : decode cc pc = .ok (.invokestatic index, 3))
    (k : am_M p l e R s m args below meth c QQ w G cells slots nL (pc + 3) L ((1, am_min x y) :: S) σ) : am_M p l e R s m args below meth c QQ w G cells slots nL pc L ((1, y) :: (1, x) :: S) σ := by
  intro H locs ls r1 r2 r3 r4 r5 r6 r7
  have ox : am_r64 x := am_hd (am_tl r7)
  have oy : am_r64 y := am_hd r7
  have h := k H locs ls r1 r2 r3 r4 r5 r6 (am_ok2 (am_ok64 (am_rmin ox oy)) (am_tl (am_tl r7)))
  refine va_mmin_long hx hb (hml.trans r5.1.symm) hown hlink (hT _ am_math.2.1.2) (hT _ am_math.2.2.2) (hT _ am_math.2.1.1) hR.1 (by rw [am_catS]; unfold am_sz at h8; omega) hc hs hd ?_
  rw [List.map_cons, am_val1] at h
  unfold am_min at h
  simp only [am_lt64 oy ox]
  by_cases q : y < x
  · rw [if_pos q] at h ⊢; exact h
  · rw [if_neg q] at h ⊢; exact h
theorem am_mmaxL {QQ : State → Prop} {cells slots pc index : Nat} {L : List (Nat × AV)} {S : List AV} {σ : AMem} {x y : Int} (hx : p.tables.exec = Jvm.exec) (hb : c.code = cc) (hml : c.maxLocals = nL) (hown : s.vm.findClass own = some m.cls) (hT : ∀ q ∈ am_tbl, q.before args s = true) (hlink : (Cond.methodLink own index Lib.MathLoose.max_long.x).before args s = true) (hR : 1 ≤ R.frames ∧ 34 ≤ R.locals) (h8 : am_sz S ≤ 16) (hc : cells ≤ R.cells) (hs : slots ≤ R.slots) (hd : decode cc pc = .ok (.invokestatic index, 3))
    (k : am_M p l e R s m args below meth c QQ w G cells slots nL (pc + 3) L ((1, am_max x y) :: S) σ) : am_M p l e R s m args below meth c QQ w G cells slots nL pc L ((1, y) :: (1, x) :: S) σ := by
  intro H locs ls r1 r2 r3 r4 r5 r6 r7
  have ox : am_r64 x := am_hd (am_tl r7)
  have oy : am_r64 y := am_hd r7
  have h := k H locs ls r1 r2 r3 r4 r5 r6 (am_ok2 (am_ok64 (am_rmax ox oy)) (am_tl (am_tl r7)))
  refine va_mmax_long hx hb (hml.trans r5.1.symm) hown hlink (hT _ am_math.2.2.1.2) (hT _ am_math.2.2.2) (hT _ am_math.2.2.1.1) hR.1 (by rw [am_catS]; unfold am_sz at h8; omega) hc hs hd ?_
  rw [List.map_cons, am_val1] at h
  unfold am_max at h
  simp only [am_lt64 oy ox]
  by_cases q : y < x
  · rw [if_pos q] at h ⊢; exact h
  · rw [if_neg q] at h ⊢; exact h
theorem am_brm {cd : Jvm.ClassFile.Cond} {x y : Int} {A B A' B' : Prop} (ha : A → A') (hb : B → B') (h : am_br cd x y A B) : am_br cd x y A' B' := by
  cases cd <;> simp only [am_br] at h ⊢ <;> split <;> simp_all
theorem am_itm {d : Prop} [Decidable d] {A B A' B' : Prop} (ha : A → A') (hb : B → B') (h : if d then A else B) : if d then A' else B' := by
  by_cases e : d
  · rw [if_pos e] at h ⊢; exact ha h
  · rw [if_neg e] at h ⊢; exact hb h
theorem am_cS : (fun v : AV => (if v.1 = 1 then 2 else 1 : Nat)) = (fun v => if v.1 = 1 then 2 else 1) := rfl
theorem am_szc (b : Nat) (S : List AV) : (S.map fun v => (am_val b v).category).sum = am_sz S := by
  unfold am_sz; congr 1
  exact List.map_congr_left fun v _ => am_cat b v
set_option maxHeartbeats 4000000 in
theorem am_step_ok (hx : p.tables.exec = Jvm.exec) (hb : c.code = cc) (hml : c.maxLocals = nL) (hlk : meth.locks = false) (hr : meth.sig.returnType = ret) (hrt : rt = am_rtag ret) (hown : s.vm.findClass own = some m.cls) (hT : ∀ q ∈ am_tbl, q.before args s = true) (hK : am_K w s) (hcal : ∀ a ∈ cal, am_S l w G a) (hrm : am_chkR R cal = true)
    {pc n r1 r2 : Nat} {r3 : List Nat} {i : Instr} (hrn : am_isS i = true → 9990 ≤ r1 → 1 ≤ R.frames ∧ 34 ≤ R.locals) (hd : decode cc pc = .ok (i, n)) (hc : am_chkI own nL ret cal pc i n r1 r2 r3 = true)
    {nx : List (Nat × AV) → List AV → AMem → Prop} {jp : Int → List (Nat × AV) → List AV → AMem → Prop} (hnx : ∀ L S σ, nx L S σ → am_M p l e R s m args below meth c (MQ below (am_Qc w G rt Q) args s 0 0 (fun q => w.1 ≤ q)) w G 0 0 nL (pc + n) L S σ) (hjp : ∀ off L S σ, jp off L S σ → am_M p l e R s m args below meth c (MQ below (am_Qc w G rt Q) args s 0 0 (fun q => w.1 ≤ q)) w G 0 0 nL ((pc : Int) + off).toNat L S σ)
    {L : List (Nat × AV)} {S : List AV} {σ : AMem} (h : am_step G cal Q nx jp i r1 r2 r3 L S σ) : am_M p l e R s m args below meth c (MQ below (am_Qc w G rt Q) args s 0 0 (fun q => w.1 ≤ q)) w G 0 0 nL pc L S σ := by
  cases i
  case iconst k =>
    simp only [am_chkI, decide_eq_true_eq, Bool.and_eq_true] at hc
    simp only [am_step] at h
    obtain ⟨rfl, hc⟩ := hc
    exact am_pushI hx hb hc (d := 0) hd (hnx _ _ _ h)
  case bipush k =>
    simp only [am_chkI, decide_eq_true_eq, Bool.and_eq_true] at hc
    simp only [am_step] at h
    obtain ⟨rfl, hc1, hc2⟩ := hc
    exact am_bipush hx hb hc1 hc2 hd (hnx _ _ _ h)
  case sipush k =>
    simp only [am_chkI, decide_eq_true_eq, Bool.and_eq_true] at hc
    simp only [am_step] at h
    obtain ⟨rfl, hc1, hc2⟩ := hc
    exact am_sipush hx hb hc1 hc2 hd (hnx _ _ _ h)
  case lconst k =>
    simp only [am_chkI, decide_eq_true_eq, Bool.and_eq_true] at hc
    simp only [am_step] at h
    subst hc
    exact am_lconst hx hb hd (hnx _ _ _ h)
  case aconst_null =>
    simp only [am_chkI, decide_eq_true_eq, Bool.and_eq_true] at hc
    simp only [am_step] at h
    subst hc
    exact am_null hx hb hd (hnx _ _ _ h)
  case ldc idx =>
    simp only [am_chkI, decide_eq_true_eq, Bool.and_eq_true] at hc
    simp only [am_step] at h
    obtain ⟨⟨rfl, hc1⟩, hc2⟩ := hc
    exact am_ldc hx hb hc1 hown (hT _ (am_in_tbl (am_wd_in hc2) rfl)) hd (hnx _ _ _ h)
  case ldc_w idx =>
    simp only [am_chkI, decide_eq_true_eq, Bool.and_eq_true] at hc
    simp only [am_step] at h
    obtain ⟨⟨rfl, hc1⟩, hc2⟩ := hc
    exact am_ldcw hx hb hc1 hown (hT _ (am_in_tbl (am_wd_in hc2) rfl)) hd (hnx _ _ _ h)
  case ldc2_w idx =>
    simp only [am_chkI, decide_eq_true_eq, Bool.and_eq_true] at hc
    simp only [am_step] at h
    obtain ⟨⟨rfl, hc1⟩, hc2⟩ := hc
    exact am_ldc2 hx hb hc1 hown (hT _ (am_in_tbl (am_wd_in hc2) rfl)) hd (hnx _ _ _ h)
  case iload j =>
    simp only [am_chkI, decide_eq_true_eq, Bool.and_eq_true] at hc
    simp only [am_step] at h
    subst hc
    obtain ⟨x, h1, h2⟩ := am_lkt_of h
    exact am_iload hx hb h1 hd (hnx _ _ _ h2)
  case iload_n j =>
    simp only [am_chkI, decide_eq_true_eq, Bool.and_eq_true] at hc
    simp only [am_step] at h
    subst hc
    obtain ⟨x, h1, h2⟩ := am_lkt_of h
    exact am_iload_n hx hb h1 hd (hnx _ _ _ h2)
  case lload j =>
    simp only [am_chkI, decide_eq_true_eq, Bool.and_eq_true] at hc
    simp only [am_step] at h
    subst hc
    obtain ⟨x, h1, h2⟩ := am_lkt_of h
    exact am_lload hx hb h1 hd (hnx _ _ _ h2)
  case lload_n j =>
    simp only [am_chkI, decide_eq_true_eq, Bool.and_eq_true] at hc
    simp only [am_step] at h
    subst hc
    obtain ⟨x, h1, h2⟩ := am_lkt_of h
    exact am_lload_n hx hb h1 hd (hnx _ _ _ h2)
  case aload j =>
    simp only [am_chkI, decide_eq_true_eq, Bool.and_eq_true] at hc
    simp only [am_step] at h
    subst hc
    obtain ⟨x, h1, h2⟩ := am_lkt_of h
    exact am_aload hx hb h1 hd (hnx _ _ _ h2)
  case aload_n j =>
    simp only [am_chkI, decide_eq_true_eq, Bool.and_eq_true] at hc
    simp only [am_step] at h
    subst hc
    obtain ⟨x, h1, h2⟩ := am_lkt_of h
    exact am_aload_n hx hb h1 hd (hnx _ _ _ h2)
  case istore j =>
    simp only [am_chkI, decide_eq_true_eq, Bool.and_eq_true] at hc
    simp only [am_step] at h
    obtain ⟨rfl, hj⟩ := hc
    obtain ⟨x, S', rfl, h2⟩ := am_p1_of h
    exact am_istore hx hb hj hd (hnx _ _ _ h2)
  case istore_n j =>
    simp only [am_chkI, decide_eq_true_eq, Bool.and_eq_true] at hc
    simp only [am_step] at h
    obtain ⟨rfl, hj⟩ := hc
    obtain ⟨x, S', rfl, h2⟩ := am_p1_of h
    exact am_istore_n hx hb hj hd (hnx _ _ _ h2)
  case lstore j =>
    simp only [am_chkI, decide_eq_true_eq, Bool.and_eq_true] at hc
    simp only [am_step] at h
    obtain ⟨rfl, hj⟩ := hc
    obtain ⟨x, S', rfl, h2⟩ := am_p1_of h
    exact am_lstore hx hb hj hd (hnx _ _ _ h2)
  case lstore_n j =>
    simp only [am_chkI, decide_eq_true_eq, Bool.and_eq_true] at hc
    simp only [am_step] at h
    obtain ⟨rfl, hj⟩ := hc
    obtain ⟨x, S', rfl, h2⟩ := am_p1_of h
    exact am_lstore_n hx hb hj hd (hnx _ _ _ h2)
  case astore j =>
    simp only [am_chkI, decide_eq_true_eq, Bool.and_eq_true] at hc
    simp only [am_step] at h
    obtain ⟨rfl, hj⟩ := hc
    obtain ⟨x, S', rfl, h2⟩ := am_p1_of h
    exact am_astore hx hb hj hd (hnx _ _ _ h2)
  case astore_n j =>
    simp only [am_chkI, decide_eq_true_eq, Bool.and_eq_true] at hc
    simp only [am_step] at h
    obtain ⟨rfl, hj⟩ := hc
    obtain ⟨x, S', rfl, h2⟩ := am_p1_of h
    exact am_astore_n hx hb hj hd (hnx _ _ _ h2)
  case iinc j k =>
    simp only [am_chkI, decide_eq_true_eq, Bool.and_eq_true] at hc
    simp only [am_step] at h
    obtain ⟨rfl, hj⟩ := hc
    obtain ⟨x, h1, h2, h3⟩ := am_lkt_of h
    exact am_iinc hx hb hj h1 h2 hd (hnx _ _ _ h3)
  case iadd =>
    simp only [am_chkI, decide_eq_true_eq, Bool.and_eq_true] at hc
    simp only [am_step] at h
    subst hc
    obtain ⟨y, S1, rfl, h1⟩ := am_p1_of h
    obtain ⟨x, S2, rfl, h2, h3⟩ := am_p1_of h1
    exact am_iadd hx hb h2 hd (hnx _ _ _ h3)
  case isub =>
    simp only [am_chkI, decide_eq_true_eq, Bool.and_eq_true] at hc
    simp only [am_step] at h
    subst hc
    obtain ⟨y, S1, rfl, h1⟩ := am_p1_of h
    obtain ⟨x, S2, rfl, h2, h3⟩ := am_p1_of h1
    exact am_isub hx hb h2 hd (hnx _ _ _ h3)
  case imul =>
    simp only [am_chkI, decide_eq_true_eq, Bool.and_eq_true] at hc
    simp only [am_step] at h
    subst hc
    obtain ⟨y, S1, rfl, h1⟩ := am_p1_of h
    obtain ⟨x, S2, rfl, h2, h3⟩ := am_p1_of h1
    exact am_imul hx hb h2 hd (hnx _ _ _ h3)
  case idiv =>
    simp only [am_chkI, decide_eq_true_eq, Bool.and_eq_true] at hc
    simp only [am_step] at h
    subst hc
    obtain ⟨y, S1, rfl, h1⟩ := am_p1_of h
    obtain ⟨x, S2, rfl, h2, h3⟩ := am_p1_of h1
    exact am_idiv hx hb h2 hd (hnx _ _ _ h3)
  case irem =>
    simp only [am_chkI, decide_eq_true_eq, Bool.and_eq_true] at hc
    simp only [am_step] at h
    subst hc
    obtain ⟨y, S1, rfl, h1⟩ := am_p1_of h
    obtain ⟨x, S2, rfl, h2, h3⟩ := am_p1_of h1
    exact am_irem hx hb h2 hd (hnx _ _ _ h3)
  case ldiv =>
    simp only [am_chkI, decide_eq_true_eq, Bool.and_eq_true] at hc
    simp only [am_step] at h
    subst hc
    obtain ⟨y, S1, rfl, h1⟩ := am_p1_of h
    obtain ⟨x, S2, rfl, h2, h3⟩ := am_p1_of h1
    exact am_ldiv hx hb h2 hd (hnx _ _ _ h3)
  case lrem =>
    simp only [am_chkI, decide_eq_true_eq, Bool.and_eq_true] at hc
    simp only [am_step] at h
    subst hc
    obtain ⟨y, S1, rfl, h1⟩ := am_p1_of h
    obtain ⟨x, S2, rfl, h2, h3⟩ := am_p1_of h1
    exact am_lrem hx hb h2 hd (hnx _ _ _ h3)
  case iand =>
    simp only [am_chkI, decide_eq_true_eq, Bool.and_eq_true] at hc
    simp only [am_step] at h
    subst hc
    obtain ⟨y, S1, rfl, h1⟩ := am_p1_of h
    obtain ⟨x, S2, rfl, h3⟩ := am_p1_of h1
    exact am_iand hx hb hd (hnx _ _ _ h3)
  case ior =>
    simp only [am_chkI, decide_eq_true_eq, Bool.and_eq_true] at hc
    simp only [am_step] at h
    subst hc
    obtain ⟨y, S1, rfl, h1⟩ := am_p1_of h
    obtain ⟨x, S2, rfl, h3⟩ := am_p1_of h1
    exact am_ior hx hb hd (hnx _ _ _ h3)
  case ixor =>
    simp only [am_chkI, decide_eq_true_eq, Bool.and_eq_true] at hc
    simp only [am_step] at h
    subst hc
    obtain ⟨y, S1, rfl, h1⟩ := am_p1_of h
    obtain ⟨x, S2, rfl, h3⟩ := am_p1_of h1
    exact am_ixor hx hb hd (hnx _ _ _ h3)
  case ishl =>
    simp only [am_chkI, decide_eq_true_eq, Bool.and_eq_true] at hc
    simp only [am_step] at h
    subst hc
    obtain ⟨y, S1, rfl, h1⟩ := am_p1_of h
    obtain ⟨x, S2, rfl, h3⟩ := am_p1_of h1
    exact am_ishl hx hb hd (hnx _ _ _ h3)
  case ishr =>
    simp only [am_chkI, decide_eq_true_eq, Bool.and_eq_true] at hc
    simp only [am_step] at h
    subst hc
    obtain ⟨y, S1, rfl, h1⟩ := am_p1_of h
    obtain ⟨x, S2, rfl, h3⟩ := am_p1_of h1
    exact am_ishr hx hb hd (hnx _ _ _ h3)
  case ladd =>
    simp only [am_chkI, decide_eq_true_eq, Bool.and_eq_true] at hc
    simp only [am_step] at h
    subst hc
    obtain ⟨y, S1, rfl, h1⟩ := am_p1_of h
    obtain ⟨x, S2, rfl, h3⟩ := am_p1_of h1
    exact am_ladd hx hb hd (hnx _ _ _ h3)
  case lsub =>
    simp only [am_chkI, decide_eq_true_eq, Bool.and_eq_true] at hc
    simp only [am_step] at h
    subst hc
    obtain ⟨y, S1, rfl, h1⟩ := am_p1_of h
    obtain ⟨x, S2, rfl, h3⟩ := am_p1_of h1
    exact am_lsub hx hb hd (hnx _ _ _ h3)
  case lmul =>
    simp only [am_chkI, decide_eq_true_eq, Bool.and_eq_true] at hc
    simp only [am_step] at h
    subst hc
    obtain ⟨y, S1, rfl, h1⟩ := am_p1_of h
    obtain ⟨x, S2, rfl, h3⟩ := am_p1_of h1
    exact am_lmul hx hb hd (hnx _ _ _ h3)
  case land =>
    simp only [am_chkI, decide_eq_true_eq, Bool.and_eq_true] at hc
    simp only [am_step] at h
    subst hc
    obtain ⟨y, S1, rfl, h1⟩ := am_p1_of h
    obtain ⟨x, S2, rfl, h3⟩ := am_p1_of h1
    exact am_land hx hb hd (hnx _ _ _ h3)
  case lor =>
    simp only [am_chkI, decide_eq_true_eq, Bool.and_eq_true] at hc
    simp only [am_step] at h
    subst hc
    obtain ⟨y, S1, rfl, h1⟩ := am_p1_of h
    obtain ⟨x, S2, rfl, h3⟩ := am_p1_of h1
    exact am_lor hx hb hd (hnx _ _ _ h3)
  case lxor =>
    simp only [am_chkI, decide_eq_true_eq, Bool.and_eq_true] at hc
    simp only [am_step] at h
    subst hc
    obtain ⟨y, S1, rfl, h1⟩ := am_p1_of h
    obtain ⟨x, S2, rfl, h3⟩ := am_p1_of h1
    exact am_lxor hx hb hd (hnx _ _ _ h3)
  case lshl =>
    simp only [am_chkI, decide_eq_true_eq, Bool.and_eq_true] at hc
    simp only [am_step] at h
    subst hc
    obtain ⟨y, S1, rfl, h1⟩ := am_p1_of h
    obtain ⟨x, S2, rfl, h3⟩ := am_p1_of h1
    exact am_lshl hx hb hd (hnx _ _ _ h3)
  case lshr =>
    simp only [am_chkI, decide_eq_true_eq, Bool.and_eq_true] at hc
    simp only [am_step] at h
    subst hc
    obtain ⟨y, S1, rfl, h1⟩ := am_p1_of h
    obtain ⟨x, S2, rfl, h3⟩ := am_p1_of h1
    exact am_lshr hx hb hd (hnx _ _ _ h3)
  case lushr =>
    simp only [am_chkI, decide_eq_true_eq, Bool.and_eq_true] at hc
    simp only [am_step] at h
    subst hc
    obtain ⟨y, S1, rfl, h1⟩ := am_p1_of h
    obtain ⟨x, S2, rfl, h3⟩ := am_p1_of h1
    exact am_lushr hx hb hd (hnx _ _ _ h3)
  case lneg =>
    simp only [am_chkI, decide_eq_true_eq, Bool.and_eq_true] at hc
    simp only [am_step] at h
    subst hc
    obtain ⟨x, S1, rfl, h1⟩ := am_p1_of h
    exact am_lneg hx hb hd (hnx _ _ _ h1)
  case i2l =>
    simp only [am_chkI, decide_eq_true_eq, Bool.and_eq_true] at hc
    simp only [am_step] at h
    subst hc
    obtain ⟨x, S1, rfl, h1⟩ := am_p1_of h
    exact am_ai2l hx hb hd (hnx _ _ _ h1)
  case l2i =>
    simp only [am_chkI, decide_eq_true_eq, Bool.and_eq_true] at hc
    simp only [am_step] at h
    subst hc
    obtain ⟨x, S1, rfl, h1⟩ := am_p1_of h
    exact am_al2i hx hb hd (hnx _ _ _ h1)
  case i2b =>
    simp only [am_chkI, decide_eq_true_eq, Bool.and_eq_true] at hc
    simp only [am_step] at h
    subst hc
    obtain ⟨x, S1, rfl, h1⟩ := am_p1_of h
    exact am_ai2b hx hb hd (hnx _ _ _ h1)
  case dup =>
    simp only [am_chkI, decide_eq_true_eq, Bool.and_eq_true] at hc
    simp only [am_step] at h
    subst hc
    cases S with
    | nil => exact h.elim
    | cons v S =>
      obtain ⟨h1, h2⟩ := am_ifN_of h
      exact am_dup hx hb h1 hd (hnx _ _ _ h2)
  case pop =>
    simp only [am_chkI, decide_eq_true_eq, Bool.and_eq_true] at hc
    simp only [am_step] at h
    subst hc
    cases S with
    | nil => exact h.elim
    | cons v S =>
      obtain ⟨h1, h2⟩ := am_ifN_of h
      exact am_pop1 hx hb h1 hd (hnx _ _ _ h2)
  case dup_x1 =>
    simp only [am_chkI, decide_eq_true_eq, Bool.and_eq_true] at hc
    simp only [am_step] at h
    subst hc
    match S, h with
    | u :: v :: S, h =>
      obtain ⟨h1, h2⟩ := am_ifN_of h
      obtain ⟨h3, h4⟩ := am_ifN_of h2
      exact am_dup_x1 hx hb h1 h3 hd (hnx _ _ _ h4)
    | [], h => exact h.elim
    | [_], h => exact h.elim
  case dup2 =>
    simp only [am_chkI, decide_eq_true_eq, Bool.and_eq_true] at hc
    simp only [am_step] at h
    subst hc
    match S, h with
    | u :: v :: S, h =>
      obtain ⟨h1, h2⟩ := am_ifN_of h
      obtain ⟨h3, h4⟩ := am_ifN_of h2
      exact am_dup2 hx hb h1 h3 hd (hnx _ _ _ h4)
    | [], h => exact h.elim
    | [_], h => exact h.elim
  case if_icmp cd off =>
    simp only [am_chkI, decide_eq_true_eq, Bool.and_eq_true] at hc
    simp only [am_step] at h
    obtain ⟨rfl, hc⟩ := hc
    obtain ⟨y, S1, rfl, h1⟩ := am_p1_of h
    obtain ⟨x, S2, rfl, h2⟩ := am_p1_of h1
    cases cd with
    | eq => exact am_icmp_eq hx hb hd (am_tgt_of hc) (am_brm (hjp _ _ _ _) (hnx _ _ _) h2)
    | ne => exact am_icmp_ne hx hb hd (am_tgt_of hc) (am_brm (hjp _ _ _ _) (hnx _ _ _) h2)
    | lt => exact am_icmp_lt hx hb hd (am_tgt_of hc) (am_brm (hjp _ _ _ _) (hnx _ _ _) h2)
    | ge => exact am_icmp_ge hx hb hd (am_tgt_of hc) (am_brm (hjp _ _ _ _) (hnx _ _ _) h2)
    | gt => exact am_icmp_gt hx hb hd (am_tgt_of hc) (am_brm (hjp _ _ _ _) (hnx _ _ _) h2)
    | le => exact am_icmp_le hx hb hd (am_tgt_of hc) (am_brm (hjp _ _ _ _) (hnx _ _ _) h2)
  case ifCond cd off =>
    simp only [am_chkI, decide_eq_true_eq, Bool.and_eq_true] at hc
    simp only [am_step] at h
    obtain ⟨rfl, hc⟩ := hc
    obtain ⟨x, S2, rfl, h2⟩ := am_p1_of h
    cases cd with
    | eq => exact am_if_eq hx hb hd (am_tgt_of hc) (am_brm (hjp _ _ _ _) (hnx _ _ _) h2)
    | ne => exact am_if_ne hx hb hd (am_tgt_of hc) (am_brm (hjp _ _ _ _) (hnx _ _ _) h2)
    | lt => exact am_if_lt hx hb hd (am_tgt_of hc) (am_brm (hjp _ _ _ _) (hnx _ _ _) h2)
    | ge => exact am_if_ge hx hb hd (am_tgt_of hc) (am_brm (hjp _ _ _ _) (hnx _ _ _) h2)
    | gt => exact am_if_gt hx hb hd (am_tgt_of hc) (am_brm (hjp _ _ _ _) (hnx _ _ _) h2)
    | le => exact am_if_le hx hb hd (am_tgt_of hc) (am_brm (hjp _ _ _ _) (hnx _ _ _) h2)
  case ifnull off =>
    simp only [am_chkI, decide_eq_true_eq, Bool.and_eq_true] at hc
    simp only [am_step] at h
    obtain ⟨rfl, hc⟩ := hc
    obtain ⟨x, S2, rfl, h2⟩ := am_p1_of h
    exact am_ifnull hx hb hd (am_tgt_of hc) (am_itm (hjp _ _ _ _) (hnx _ _ _) h2)
  case ifnonnull off =>
    simp only [am_chkI, decide_eq_true_eq, Bool.and_eq_true] at hc
    simp only [am_step] at h
    obtain ⟨rfl, hc⟩ := hc
    obtain ⟨x, S2, rfl, h2⟩ := am_p1_of h
    exact am_ifnonnull hx hb hd (am_tgt_of hc) (am_itm (hnx _ _ _) (hjp _ _ _ _) h2)
  case if_acmp cd off =>
    simp only [am_chkI, decide_eq_true_eq, Bool.and_eq_true] at hc
    simp only [am_step] at h
    obtain ⟨rfl, hc⟩ := hc
    cases cd with
    | ne => exact h.elim
    | eq =>
      obtain ⟨y, S1, rfl, h1⟩ := am_p1_of h
      obtain ⟨x, S2, rfl, h2⟩ := am_p1_of h1
      exact am_acmp_eq hx hb hd (am_tgt_of hc) (am_itm (hjp _ _ _ _) (hnx _ _ _) h2)
  case goto off =>
    simp only [am_chkI, decide_eq_true_eq, Bool.and_eq_true] at hc
    simp only [am_step] at h
    obtain ⟨rfl, hc⟩ := hc
    exact am_goto hx hb hd (am_tgt_of hc) (hjp _ _ _ _ h)
  case tableswitch dflt lo hi offs =>
    simp only [am_chkI, decide_eq_true_eq, Bool.and_eq_true] at hc
    simp only [am_step] at h
    rw [List.all_eq_true] at hc
    obtain ⟨⟨hc1, hc2⟩, hc3⟩ := hc
    obtain ⟨x, S1, rfl, h1⟩ := am_p1_of h
    intro H locs ls q1 q2 q3 q4 q5 q6 q7
    have ox : am_r32 x := am_hd q7
    have e0 := am_t32 ox
    rcases am_sw_of h1 with ⟨g1, g2, o, g3, g4⟩ | ⟨g1, g4⟩
    · rw [Array.length_toList] at g2
      have hmem : o ∈ offs.toList := List.mem_of_getElem? g3
      refine lv_tableIn hx hb hd (x := Int32.ofInt x) (by rw [e0]; omega) (by rw [e0]; omega) (by rw [e0, ← Array.getElem?_toList]; exact g3) (am_tgt_of (hc2 o hmem)) ?_
      exact hjp _ _ _ _ g4 H locs ls q1 q2 q3 q4 q5 q6 (am_tl q7)
    · rw [Array.length_toList] at g1
      refine lv_tableOut hx hb hd (x := Int32.ofInt x) (by rw [e0]; omega) (am_tgt_of hc1) ?_
      exact hjp _ _ _ _ g4 H locs ls q1 q2 q3 q4 q5 q6 (am_tl q7)
  case getfield idx =>
    simp only [am_chkI, decide_eq_true_eq, Bool.and_eq_true] at hc
    simp only [am_step] at h
    obtain ⟨rfl, hc⟩ := hc
    obtain ⟨a, S1, rfl, h1⟩ := am_p1_of h
    obtain ⟨h2, h3⟩ := am_if_of h1
    obtain ⟨q, f1, f2, f3, f4⟩ := am_fl_of hT hK hc
    rw [f3] at h3
    exact am_getf hx hb hown hT hK f1 f2 f4 h2 hd (hnx _ _ _ h3)
  case putfield idx =>
    simp only [am_chkI, decide_eq_true_eq, Bool.and_eq_true] at hc
    simp only [am_step] at h
    obtain ⟨⟨rfl, hc⟩, hp⟩ := hc
    obtain ⟨q, f1, f2, f3, f4⟩ := am_fl_of hT hK hc
    match S, h with
    | [], h => exact h.elim
    | (t, x) :: S, h =>
      obtain ⟨e1, h⟩ := am_if_of h
      obtain ⟨a, S1, rfl, h1⟩ := am_p1_of h
      obtain ⟨h2, h3⟩ := am_if_of h1
      obtain ⟨h4, h5⟩ := am_if_of h3
      rw [f3] at e1
      unfold am_pchk at hp
      rw [f1] at hp
      simp only [Bool.and_eq_true, decide_eq_true_eq] at hp
      obtain ⟨p1, p2⟩ := hp
      have hnext : nx L S1 (am_upd σ a r2 x) ∧ (r3.tail.headD 0 = 0 ∨ (x = 0 ∨ x = 1)) := by
        by_cases z : r3.tail.headD 0 = 0
        · rw [if_pos z] at h5; exact ⟨h5, Or.inl z⟩
        · rw [if_neg z] at h5
          obtain ⟨h6, h7⟩ := am_if_of h5
          exact ⟨h7, Or.inr h6⟩
      have key : ∀ q : am_ok (t, x), am_fok (am_ft r1 r2) x := by
        intro ok
        rw [e1] at ok
        cases hft : am_ft r1 r2 <;> rw [hft] at p2 ok <;> first | exact ok | (rcases hnext.2 with z | z <;> first | exact z | exact absurd z (by simpa using p2)) | (exact absurd p2 (by simp))
      intro H locs ls q1 q2 q3 q4 q5 q6 q7
      exact am_putf hx hb hown hT hK f1 f2 p1 f4 h2 h4 e1 (key (am_hd q7)) hd (hnx _ _ _ hnext.1) H locs ls q1 q2 q3 q4 q5 q6 q7
  case iaload =>
    simp only [am_chkI, decide_eq_true_eq, Bool.and_eq_true] at hc
    simp only [am_step] at h
    subst hc
    obtain ⟨j, S1, rfl, h1⟩ := am_p1_of h
    obtain ⟨a, S2, rfl, h2⟩ := am_p1_of h1
    obtain ⟨h3, h4, h5, h6⟩ := am_if_of h2
    exact am_iaload1 hx hb hK h3 h4 h5 hd (hnx _ _ _ h6)
  case laload =>
    simp only [am_chkI, decide_eq_true_eq, Bool.and_eq_true] at hc
    simp only [am_step] at h
    subst hc
    obtain ⟨j, S1, rfl, h1⟩ := am_p1_of h
    obtain ⟨a, S2, rfl, h2⟩ := am_p1_of h1
    obtain ⟨h3, h4, h5, h6⟩ := am_if_of h2
    exact am_laload4 hx hb hK h3 h4 h5 hd (hnx _ _ _ h6)
  case baload =>
    simp only [am_chkI, decide_eq_true_eq, Bool.and_eq_true] at hc
    simp only [am_step] at h
    obtain ⟨rfl, hc⟩ := hc
    obtain ⟨j, S1, rfl, h1⟩ := am_p1_of h
    obtain ⟨a, S2, rfl, h2⟩ := am_p1_of h1
    obtain ⟨h3, h4, h5, h6⟩ := am_if_of h2
    rcases hc with rfl | rfl
    · exact am_baload2 hx hb hK h3 h4 h5 hd (hnx _ _ _ h6)
    · exact am_baload3 hx hb hK h3 h4 h5 hd (hnx _ _ _ h6)
  case aaload =>
    simp only [am_chkI, decide_eq_true_eq, Bool.and_eq_true] at hc
    simp only [am_step] at h
    obtain ⟨rfl, hc⟩ := hc
    obtain ⟨j, S1, rfl, h1⟩ := am_p1_of h
    obtain ⟨a, S2, rfl, h2⟩ := am_p1_of h1
    obtain ⟨h3, h4, h5, h6⟩ := am_if_of h2
    split at hc
    · cases hc
    · rename_i t ht
      rw [decide_eq_true_eq] at hc
      exact am_aaload hx hb hK ht hc.2.1 hc.2.2 hc.1 h3 h4 h5 hd (hnx _ _ _ h6)
  case iastore =>
    simp only [am_chkI, decide_eq_true_eq, Bool.and_eq_true] at hc
    simp only [am_step] at h
    subst hc
    obtain ⟨x, S0, rfl, h0⟩ := am_p1_of h
    obtain ⟨j, S1, rfl, h1⟩ := am_p1_of h0
    obtain ⟨a, S2, rfl, h2⟩ := am_p1_of h1
    obtain ⟨h3, h4, h5, h6⟩ := am_if_of h2
    exact am_iastore1 hx hb hK h3 h4 h5 hd (hnx _ _ _ h6)
  case lastore =>
    simp only [am_chkI, decide_eq_true_eq, Bool.and_eq_true] at hc
    simp only [am_step] at h
    subst hc
    obtain ⟨x, S0, rfl, h0⟩ := am_p1_of h
    obtain ⟨j, S1, rfl, h1⟩ := am_p1_of h0
    obtain ⟨a, S2, rfl, h2⟩ := am_p1_of h1
    obtain ⟨h3, h4, h5, h6⟩ := am_if_of h2
    exact am_lastore4 hx hb hK h3 h4 h5 hd (hnx _ _ _ h6)
  case bastore =>
    simp only [am_chkI, decide_eq_true_eq, Bool.and_eq_true] at hc
    simp only [am_step] at h
    obtain ⟨rfl, hc⟩ := hc
    obtain ⟨x, S0, rfl, h0⟩ := am_p1_of h
    obtain ⟨j, S1, rfl, h1⟩ := am_p1_of h0
    obtain ⟨a, S2, rfl, h2⟩ := am_p1_of h1
    obtain ⟨h3, h4⟩ := am_if_of h2
    rcases hc with rfl | rfl
    · rw [if_pos rfl] at h4
      exact am_bastore2 hx hb hK h3 h4.1 h4.2.1 hd (hnx _ _ _ h4.2.2)
    · rw [if_neg (by decide)] at h4
      obtain ⟨h5, h6⟩ := am_if_of h4
      exact am_bastore3 hx hb hK h5 h3 h6.1 h6.2.1 hd (hnx _ _ _ h6.2.2)
  case aastore =>
    simp only [am_chkI, decide_eq_true_eq, Bool.and_eq_true] at hc
    simp only [am_step] at h
    obtain ⟨rfl, hc⟩ := hc
    obtain ⟨x, S0, rfl, h0⟩ := am_p1_of h
    obtain ⟨j, S1, rfl, h1⟩ := am_p1_of h0
    obtain ⟨a, S2, rfl, h2⟩ := am_p1_of h1
    obtain ⟨h3, h4⟩ := am_if_of h2
    obtain ⟨h5, h6, h7, h8⟩ := am_if_of h4
    split at hc
    · cases hc
    · rename_i q hq
      rw [decide_eq_true_eq] at hc
      exact am_aastore hx hb hK hq hc.2.2 hc.1 hc.2.1 h3 h6 h7 h5 hd (hnx _ _ _ h8)
  case arraylength =>
    simp only [am_chkI, decide_eq_true_eq, Bool.and_eq_true] at hc
    simp only [am_step] at h
    obtain ⟨rfl, hc1, hc2⟩ := hc
    obtain ⟨a, S2, rfl, h2⟩ := am_p1_of h
    obtain ⟨h3, h4⟩ := am_if_of h2
    obtain ⟨t, ht⟩ : ∃ t, am_ak[r1 - 1]? = some t := ⟨_, List.getElem?_eq_getElem (by show r1 - 1 < 9; omega)⟩
    exact am_alen hx hb hK ht hc1 h3 hd (hnx _ _ _ h4)
  case ireturn =>
    simp only [am_chkI, decide_eq_true_eq, Bool.and_eq_true] at hc
    simp only [am_step] at h
    obtain ⟨rfl, hc⟩ := hc
    match S, h with
    | [(t, x)], h =>
      obtain ⟨rfl, h9⟩ := am_if_of h
      by_cases z : r1 = 0
      · rw [if_pos z] at h9 hc
        rw [decide_eq_true_eq] at hc
        subst hc
        subst hrt
        exact am_ret0 (rt := 0) hx hb hlk hK hr rfl hd h9
      · rw [if_neg z] at h9 hc
        rw [decide_eq_true_eq] at hc
        obtain ⟨h1, h2⟩ := am_if_of h9
        subst hc
        subst hrt
        exact am_ret0 (rt := 0) hx hb hlk hK hr (by rcases h1 with rfl | rfl <;> rfl) hd h2
    | [], h => exact h.elim
    | _ :: _ :: _, h => exact h.elim
  case lreturn =>
    simp only [am_chkI, decide_eq_true_eq, Bool.and_eq_true] at hc
    simp only [am_step] at h
    obtain ⟨rfl, hc⟩ := hc
    subst hc
    subst hrt
    match S, h with
    | [(t, x)], h =>
      obtain ⟨rfl, h⟩ := am_if_of h
      exact am_ret1 hx hb hlk hK hr hd h
    | [], h => exact h.elim
    | _ :: _ :: _, h => exact h.elim
  case areturn =>
    simp only [am_chkI, decide_eq_true_eq, Bool.and_eq_true] at hc
    simp only [am_step] at h
    obtain ⟨rfl, hc⟩ := hc
    match S, h with
    | [(t, x)], h =>
      obtain ⟨rfl, h⟩ := am_if_of h
      split at hc
      · subst hrt
        exact am_ret2 hx hb hlk hK hr (Or.inl ⟨_, rfl⟩) hd h
      · subst hrt
        exact am_ret2 hx hb hlk hK hr (Or.inr ⟨_, rfl⟩) hd h
      · cases hc
    | [], h => exact h.elim
    | _ :: _ :: _, h => exact h.elim
  case return_ =>
    simp only [am_chkI, decide_eq_true_eq, Bool.and_eq_true] at hc
    simp only [am_step] at h
    obtain ⟨rfl, hc⟩ := hc
    subst hc
    subst hrt
    match S, h with
    | [], h => exact am_ret3 hx hb hlk hK hr hd h
    | _ :: _, h => exact h.elim
  case invokestatic idx =>
    simp only [am_chkI, decide_eq_true_eq, Bool.and_eq_true] at hc
    simp only [am_step] at h
    obtain ⟨rfl, hc⟩ := hc
    by_cases z : r1 = 9999
    · rw [if_pos z] at hc
      rw [decide_eq_true_eq] at hc
      have h' := h
      rw [if_pos z] at h'
      obtain ⟨nn, S0, rfl, h0⟩ := am_p1_of h'
      obtain ⟨dp, S1, rfl, h1⟩ := am_p1_of h0
      obtain ⟨d, S2, rfl, h2⟩ := am_p1_of h1
      obtain ⟨sp, S3, rfl, h3⟩ := am_p1_of h2
      obtain ⟨a, S4, rfl, h4⟩ := am_p1_of h3
      obtain ⟨g1, h5⟩ := am_if_of h4
      obtain ⟨g2, h6⟩ := am_if_of h5
      obtain ⟨g3, k1, k2, k3, k4, k5, k6⟩ := am_if_of h6
      have hz := hrn rfl (by omega)
      exact am_copyB hx hb hml hown (hT _ (am_in_tbl (am_wd_in hc) rfl)) (hT _ am_native.1) (hT _ am_native.2.1) (hT _ am_native.2.2) hK g1 g2 k1 k2 k3 k4 k5 hz.1 (by rw [am_szc, am_nfw]; omega) hd (hnx _ _ _ k6)
    · rw [if_neg z] at hc
      have h' := h
      rw [if_neg z] at h'
      by_cases z1 : r1 = 9991
      · rw [if_pos z1] at hc h'
        rw [decide_eq_true_eq] at hc
        obtain ⟨y, S1, rfl, h1⟩ := am_p1_of h'
        obtain ⟨x, S2, rfl, h2⟩ := am_p1_of h1
        obtain ⟨g1, g2⟩ := am_if_of h2
        exact am_mminI hx hb hml hown hT (hT _ (am_in_tbl (am_wd_in hc) rfl)) (hrn rfl (by omega)) g1 (Nat.zero_le _) (Nat.zero_le _) hd (hnx _ _ _ g2)
      rw [if_neg z1] at hc h'
      by_cases z2 : r1 = 9992
      · rw [if_pos z2] at hc h'
        rw [decide_eq_true_eq] at hc
        obtain ⟨y, S1, rfl, h1⟩ := am_p1_of h'
        obtain ⟨x, S2, rfl, h2⟩ := am_p1_of h1
        obtain ⟨g1, g2⟩ := am_if_of h2
        exact am_mminL hx hb hml hown hT (hT _ (am_in_tbl (am_wd_in hc) rfl)) (hrn rfl (by omega)) g1 (Nat.zero_le _) (Nat.zero_le _) hd (hnx _ _ _ g2)
      rw [if_neg z2] at hc h'
      by_cases z3 : r1 = 9993
      · rw [if_pos z3] at hc h'
        rw [decide_eq_true_eq] at hc
        obtain ⟨y, S1, rfl, h1⟩ := am_p1_of h'
        obtain ⟨x, S2, rfl, h2⟩ := am_p1_of h1
        obtain ⟨g1, g2⟩ := am_if_of h2
        exact am_mmaxL hx hb hml hown hT (hT _ (am_in_tbl (am_wd_in hc) rfl)) (hrn rfl (by omega)) g1 (Nat.zero_le _) (Nat.zero_le _) hd (hnx _ _ _ g2)
      rw [if_neg z3] at hc h'
      obtain ⟨a, ha, e1, xs, S', k1, rfl, k3, k4⟩ := am_call_of h'
      rw [List.all_eq_true] at hc
      have hc1 := hc a ha
      simp only [Bool.or_eq_true, Bool.and_eq_true, decide_eq_true_eq] at hc1
      have hc2 := hc1.resolve_left (fun q => q e1)
      unfold am_chkR at hrm
      rw [List.all_eq_true] at hrm
      have hrm1 := hrm a ha
      rw [decide_eq_true_eq] at hrm1
      exact am_callS hx hb hml hown hT hK a (hcal a ha) hc2.1 (am_in_tbl (am_wd_in hc2.2) rfl) k1 hrm1.1 hrm1.2.1 hrm1.2.2.1 hrm1.2.2.2 (Nat.zero_le _) (Nat.zero_le _) k3 hd k4 (fun x σ' q => hnx _ _ _ q)
  case invokevirtual idx =>
    simp only [am_chkI, decide_eq_true_eq, Bool.and_eq_true] at hc
    simp only [am_step] at h
    obtain ⟨rfl, hc⟩ := hc
    obtain ⟨a, ha, e1, xs, S', k1, rfl, k3, k4⟩ := am_call_of h
    split at hc
    · cases hc
    · rename_i q hq
      rw [List.all_eq_true] at hc
      have hc1 := hc a ha
      simp only [Bool.or_eq_true, Bool.and_eq_true, decide_eq_true_eq, Bool.not_eq_true'] at hc1
      have hc2 := hc1.resolve_left (fun q => q e1)
      unfold am_chkR at hrm
      rw [List.all_eq_true] at hrm
      have hrm1 := hrm a ha
      rw [decide_eq_true_eq] at hrm1
      match xs, k1, k4 with
      | [], k1, k4 => exact k4.elim
      | ob :: xs, k1, k4 =>
        obtain ⟨k5, k6⟩ := am_if_of k4
        exact am_callV hx hb hml hown hT hK a (hcal a ha) hc2.1.1 (am_in_tbl (am_wd_in hc2.2) rfl) hq hc2.1.2 k5 k1 hrm1.1 hrm1.2.1 hrm1.2.2.1 hrm1.2.2.2 (Nat.zero_le _) (Nat.zero_le _) k3 hd k6 (fun x σ' q => hnx _ _ _ q)
  all_goals exact False.elim h
end AMS
