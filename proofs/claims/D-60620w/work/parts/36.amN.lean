/-! the step once more, for any end QQ and any counters, without returns -/
section AMN
variable {p : Program} {l : Launch} {e : Env} {R : Room} {s : State} {m : MethodId} {args : Array Value} {below : List Frame} {meth : Method} {c : Code} {w : AW} {G : AG} {nL : Nat} {QQ : State → Prop} {cells slots : Nat}
variable {cc : ByteArray} {own : String} {ret : Option FieldType} {cal : List AC}
set_option maxHeartbeats 4000000 in
theorem am_stepN_ok (hx : p.tables.exec = Jvm.exec) (hb : c.code = cc) (hml : c.maxLocals = nL) (hown : s.vm.findClass own = some m.cls) (hT : ∀ q ∈ am_tbl, q.before args s = true) (hK : am_K w s) (hcal : ∀ a ∈ cal, am_S l w G a) (hrm : am_chkR R cal = true) (hcl1 : cells ≤ R.cells) (hcl2 : slots ≤ R.slots)
    {pc n r1 r2 : Nat} {r3 : List Nat} {i : Instr} (hrn : am_isS i = true → 9990 ≤ r1 → 1 ≤ R.frames ∧ 34 ≤ R.locals) (hd : decode cc pc = .ok (i, n)) (hc : am_chkI own nL ret cal pc i n r1 r2 r3 = true)
    {nx : List (Nat × AV) → List AV → AMem → Prop} {jp : Int → List (Nat × AV) → List AV → AMem → Prop} (hnx : ∀ L S σ, nx L S σ → am_M p l e R s m args below meth c QQ w G cells slots nL (pc + n) L S σ) (hjp : ∀ off L S σ, jp off L S σ → am_M p l e R s m args below meth c QQ w G cells slots nL ((pc : Int) + off).toNat L S σ)
    {L : List (Nat × AV)} {S : List AV} {σ : AMem} (h : am_step G cal (fun _ _ => False) nx jp i r1 r2 r3 L S σ) : am_M p l e R s m args below meth c QQ w G cells slots nL pc L S σ := by
  cases i
  case iconst k =>
    simp only [am_chkI, decide_eq_true_eq, Bool.and_eq_true] at hc
    simp only [am_step] at h
    obtain ⟨rfl, hc⟩ := hc
    exact am_pushI hx hb hc (d := 0) hd (hnx _ _ _ h)
  case bipush k =>
    simp only [am_chkI, decide_eq_true_eq, Bool.and_eq_true] at hc
    simp only [am_step] at h
    obtain ⟨rfl, hc1, hc2⟩ := hc
    exact am_bipush hx hb hc1 hc2 hd (hnx _ _ _ h)
  case sipush k =>
    simp only [am_chkI, decide_eq_true_eq, Bool.and_eq_true] at hc
    simp only [am_step] at h
    obtain ⟨rfl, hc1, hc2⟩ := hc
    exact am_sipush hx hb hc1 hc2 hd (hnx _ _ _ h)
  case lconst k =>
    simp only [am_chkI, decide_eq_true_eq, Bool.and_eq_true] at hc
    simp only [am_step] at h
    subst hc
    exact am_lconst hx hb hd (hnx _ _ _ h)
  case aconst_null =>
    simp only [am_chkI, decide_eq_true_eq, Bool.and_eq_true] at hc
    simp only [am_step] at h
    subst hc
    exact am_null hx hb hd (hnx _ _ _ h)
  case ldc idx =>
    simp only [am_chkI, decide_eq_true_eq, Bool.and_eq_true] at hc
    simp only [am_step] at h
    obtain ⟨⟨rfl, hc1⟩, hc2⟩ := hc
    exact am_ldc hx hb hc1 hown (hT _ (am_in_tbl (am_wd_in hc2) rfl)) hd (hnx _ _ _ h)
  case ldc_w idx =>
    simp only [am_chkI, decide_eq_true_eq, Bool.and_eq_true] at hc
    simp only [am_step] at h
    obtain ⟨⟨rfl, hc1⟩, hc2⟩ := hc
    exact am_ldcw hx hb hc1 hown (hT _ (am_in_tbl (am_wd_in hc2) rfl)) hd (hnx _ _ _ h)
  case ldc2_w idx =>
    simp only [am_chkI, decide_eq_true_eq, Bool.and_eq_true] at hc
    simp only [am_step] at h
    obtain ⟨⟨rfl, hc1⟩, hc2⟩ := hc
    exact am_ldc2 hx hb hc1 hown (hT _ (am_in_tbl (am_wd_in hc2) rfl)) hd (hnx _ _ _ h)
  case iload j =>
    simp only [am_chkI, decide_eq_true_eq, Bool.and_eq_true] at hc
    simp only [am_step] at h
    subst hc
    obtain ⟨x, h1, h2⟩ := am_lkt_of h
    exact am_iload hx hb h1 hd (hnx _ _ _ h2)
  case iload_n j =>
    simp only [am_chkI, decide_eq_true_eq, Bool.and_eq_true] at hc
    simp only [am_step] at h
    subst hc
    obtain ⟨x, h1, h2⟩ := am_lkt_of h
    exact am_iload_n hx hb h1 hd (hnx _ _ _ h2)
  case lload j =>
    simp only [am_chkI, decide_eq_true_eq, Bool.and_eq_true] at hc
    simp only [am_step] at h
    subst hc
    obtain ⟨x, h1, h2⟩ := am_lkt_of h
    exact am_lload hx hb h1 hd (hnx _ _ _ h2)
  case lload_n j =>
    simp only [am_chkI, decide_eq_true_eq, Bool.and_eq_true] at hc
    simp only [am_step] at h
    subst hc
    obtain ⟨x, h1, h2⟩ := am_lkt_of h
    exact am_lload_n hx hb h1 hd (hnx _ _ _ h2)
  case aload j =>
    simp only [am_chkI, decide_eq_true_eq, Bool.and_eq_true] at hc
    simp only [am_step] at h
    subst hc
    obtain ⟨x, h1, h2⟩ := am_lkt_of h
    exact am_aload hx hb h1 hd (hnx _ _ _ h2)
  case aload_n j =>
    simp only [am_chkI, decide_eq_true_eq, Bool.and_eq_true] at hc
    simp only [am_step] at h
    subst hc
    obtain ⟨x, h1, h2⟩ := am_lkt_of h
    exact am_aload_n hx hb h1 hd (hnx _ _ _ h2)
  case istore j =>
    simp only [am_chkI, decide_eq_true_eq, Bool.and_eq_true] at hc
    simp only [am_step] at h
    obtain ⟨rfl, hj⟩ := hc
    obtain ⟨x, S', rfl, h2⟩ := am_p1_of h
    exact am_istore hx hb hj hd (hnx _ _ _ h2)
  case istore_n j =>
    simp only [am_chkI, decide_eq_true_eq, Bool.and_eq_true] at hc
    simp only [am_step] at h
    obtain ⟨rfl, hj⟩ := hc
    obtain ⟨x, S', rfl, h2⟩ := am_p1_of h
    exact am_istore_n hx hb hj hd (hnx _ _ _ h2)
  case lstore j =>
    simp only [am_chkI, decide_eq_true_eq, Bool.and_eq_true] at hc
    simp only [am_step] at h
    obtain ⟨rfl, hj⟩ := hc
    obtain ⟨x, S', rfl, h2⟩ := am_p1_of h
    exact am_lstore hx hb hj hd (hnx _ _ _ h2)
  case lstore_n j =>
    simp only [am_chkI, decide_eq_true_eq, Bool.and_eq_true] at hc
    simp only [am_step] at h
    obtain ⟨rfl, hj⟩ := hc
    obtain ⟨x, S', rfl, h2⟩ := am_p1_of h
    exact am_lstore_n hx hb hj hd (hnx _ _ _ h2)
  case astore j =>
    simp only [am_chkI, decide_eq_true_eq, Bool.and_eq_true] at hc
    simp only [am_step] at h
    obtain ⟨rfl, hj⟩ := hc
    obtain ⟨x, S', rfl, h2⟩ := am_p1_of h
    exact am_astore hx hb hj hd (hnx _ _ _ h2)
  case astore_n j =>
    simp only [am_chkI, decide_eq_true_eq, Bool.and_eq_true] at hc
    simp only [am_step] at h
    obtain ⟨rfl, hj⟩ := hc
    obtain ⟨x, S', rfl, h2⟩ := am_p1_of h
    exact am_astore_n hx hb hj hd (hnx _ _ _ h2)
  case iinc j k =>
    simp only [am_chkI, decide_eq_true_eq, Bool.and_eq_true] at hc
    simp only [am_step] at h
    obtain ⟨rfl, hj⟩ := hc
    obtain ⟨x, h1, h2, h3⟩ := am_lkt_of h
    exact am_iinc hx hb hj h1 h2 hd (hnx _ _ _ h3)
  case iadd =>
    simp only [am_chkI, decide_eq_true_eq, Bool.and_eq_true] at hc
    simp only [am_step] at h
    subst hc
    obtain ⟨y, S1, rfl, h1⟩ := am_p1_of h
    obtain ⟨x, S2, rfl, h2, h3⟩ := am_p1_of h1
    exact am_iadd hx hb h2 hd (hnx _ _ _ h3)
  case isub =>
    simp only [am_chkI, decide_eq_true_eq, Bool.and_eq_true] at hc
    simp only [am_step] at h
    subst hc
    obtain ⟨y, S1, rfl, h1⟩ := am_p1_of h
    obtain ⟨x, S2, rfl, h2, h3⟩ := am_p1_of h1
    exact am_isub hx hb h2 hd (hnx _ _ _ h3)
  case imul =>
    simp only [am_chkI, decide_eq_true_eq, Bool.and_eq_true] at hc
    simp only [am_step] at h
    subst hc
    obtain ⟨y, S1, rfl, h1⟩ := am_p1_of h
    obtain ⟨x, S2, rfl, h2, h3⟩ := am_p1_of h1
    exact am_imul hx hb h2 hd (hnx _ _ _ h3)
  case idiv =>
    simp only [am_chkI, decide_eq_true_eq, Bool.and_eq_true] at hc
    simp only [am_step] at h
    subst hc
    obtain ⟨y, S1, rfl, h1⟩ := am_p1_of h
    obtain ⟨x, S2, rfl, h2, h3⟩ := am_p1_of h1
    exact am_idiv hx hb h2 hd (hnx _ _ _ h3)
  case irem =>
    simp only [am_chkI, decide_eq_true_eq, Bool.and_eq_true] at hc
    simp only [am_step] at h
    subst hc
    obtain ⟨y, S1, rfl, h1⟩ := am_p1_of h
    obtain ⟨x, S2, rfl, h2, h3⟩ := am_p1_of h1
    exact am_irem hx hb h2 hd (hnx _ _ _ h3)
  case ldiv =>
    simp only [am_chkI, decide_eq_true_eq, Bool.and_eq_true] at hc
    simp only [am_step] at h
    subst hc
    obtain ⟨y, S1, rfl, h1⟩ := am_p1_of h
    obtain ⟨x, S2, rfl, h2, h3⟩ := am_p1_of h1
    exact am_ldiv hx hb h2 hd (hnx _ _ _ h3)
  case lrem =>
    simp only [am_chkI, decide_eq_true_eq, Bool.and_eq_true] at hc
    simp only [am_step] at h
    subst hc
    obtain ⟨y, S1, rfl, h1⟩ := am_p1_of h
    obtain ⟨x, S2, rfl, h2, h3⟩ := am_p1_of h1
    exact am_lrem hx hb h2 hd (hnx _ _ _ h3)
  case iand =>
    simp only [am_chkI, decide_eq_true_eq, Bool.and_eq_true] at hc
    simp only [am_step] at h
    subst hc
    obtain ⟨y, S1, rfl, h1⟩ := am_p1_of h
    obtain ⟨x, S2, rfl, h3⟩ := am_p1_of h1
    exact am_iand hx hb hd (hnx _ _ _ h3)
  case ior =>
    simp only [am_chkI, decide_eq_true_eq, Bool.and_eq_true] at hc
    simp only [am_step] at h
    subst hc
    obtain ⟨y, S1, rfl, h1⟩ := am_p1_of h
    obtain ⟨x, S2, rfl, h3⟩ := am_p1_of h1
    exact am_ior hx hb hd (hnx _ _ _ h3)
  case ixor =>
    simp only [am_chkI, decide_eq_true_eq, Bool.and_eq_true] at hc
    simp only [am_step] at h
    subst hc
    obtain ⟨y, S1, rfl, h1⟩ := am_p1_of h
    obtain ⟨x, S2, rfl, h3⟩ := am_p1_of h1
    exact am_ixor hx hb hd (hnx _ _ _ h3)
  case ishl =>
    simp only [am_chkI, decide_eq_true_eq, Bool.and_eq_true] at hc
    simp only [am_step] at h
    subst hc
    obtain ⟨y, S1, rfl, h1⟩ := am_p1_of h
    obtain ⟨x, S2, rfl, h3⟩ := am_p1_of h1
    exact am_ishl hx hb hd (hnx _ _ _ h3)
  case ishr =>
    simp only [am_chkI, decide_eq_true_eq, Bool.and_eq_true] at hc
    simp only [am_step] at h
    subst hc
    obtain ⟨y, S1, rfl, h1⟩ := am_p1_of h
    obtain ⟨x, S2, rfl, h3⟩ := am_p1_of h1
    exact am_ishr hx hb hd (hnx _ _ _ h3)
  case ladd =>
    simp only [am_chkI, decide_eq_true_eq, Bool.and_eq_true] at hc
    simp only [am_step] at h
    subst hc
    obtain ⟨y, S1, rfl, h1⟩ := am_p1_of h
    obtain ⟨x, S2, rfl, h3⟩ := am_p1_of h1
    exact am_ladd hx hb hd (hnx _ _ _ h3)
  case lsub =>
    simp only [am_chkI, decide_eq_true_eq, Bool.and_eq_true] at hc
    simp only [am_step] at h
    subst hc
    obtain ⟨y, S1, rfl, h1⟩ := am_p1_of h
    obtain ⟨x, S2, rfl, h3⟩ := am_p1_of h1
    exact am_lsub hx hb hd (hnx _ _ _ h3)
  case lmul =>
    simp only [am_chkI, decide_eq_true_eq, Bool.and_eq_true] at hc
    simp only [am_step] at h
    subst hc
    obtain ⟨y, S1, rfl, h1⟩ := am_p1_of h
    obtain ⟨x, S2, rfl, h3⟩ := am_p1_of h1
    exact am_lmul hx hb hd (hnx _ _ _ h3)
  case land =>
    simp only [am_chkI, decide_eq_true_eq, Bool.and_eq_true] at hc
    simp only [am_step] at h
    subst hc
    obtain ⟨y, S1, rfl, h1⟩ := am_p1_of h
    obtain ⟨x, S2, rfl, h3⟩ := am_p1_of h1
    exact am_land hx hb hd (hnx _ _ _ h3)
  case lor =>
    simp only [am_chkI, decide_eq_true_eq, Bool.and_eq_true] at hc
    simp only [am_step] at h
    subst hc
    obtain ⟨y, S1, rfl, h1⟩ := am_p1_of h
    obtain ⟨x, S2, rfl, h3⟩ := am_p1_of h1
    exact am_lor hx hb hd (hnx _ _ _ h3)
  case lxor =>
    simp only [am_chkI, decide_eq_true_eq, Bool.and_eq_true] at hc
    simp only [am_step] at h
    subst hc
    obtain ⟨y, S1, rfl, h1⟩ := am_p1_of h
    obtain ⟨x, S2, rfl, h3⟩ := am_p1_of h1
    exact am_lxor hx hb hd (hnx _ _ _ h3)
  case lshl =>
    simp only [am_chkI, decide_eq_true_eq, Bool.and_eq_true] at hc
    simp only [am_step] at h
    subst hc
    obtain ⟨y, S1, rfl, h1⟩ := am_p1_of h
    obtain ⟨x, S2, rfl, h3⟩ := am_p1_of h1
    exact am_lshl hx hb hd (hnx _ _ _ h3)
  case lshr =>
    simp only [am_chkI, decide_eq_true_eq, Bool.and_eq_true] at hc
    simp only [am_step] at h
    subst hc
    obtain ⟨y, S1, rfl, h1⟩ := am_p1_of h
    obtain ⟨x, S2, rfl, h3⟩ := am_p1_of h1
    exact am_lshr hx hb hd (hnx _ _ _ h3)
  case lushr =>
    simp only [am_chkI, decide_eq_true_eq, Bool.and_eq_true] at hc
    simp only [am_step] at h
    subst hc
    obtain ⟨y, S1, rfl, h1⟩ := am_p1_of h
    obtain ⟨x, S2, rfl, h3⟩ := am_p1_of h1
    exact am_lushr hx hb hd (hnx _ _ _ h3)
  case lneg =>
    simp only [am_chkI, decide_eq_true_eq, Bool.and_eq_true] at hc
    simp only [am_step] at h
    subst hc
    obtain ⟨x, S1, rfl, h1⟩ := am_p1_of h
    exact am_lneg hx hb hd (hnx _ _ _ h1)
  case i2l =>
    simp only [am_chkI, decide_eq_true_eq, Bool.and_eq_true] at hc
    simp only [am_step] at h
    subst hc
    obtain ⟨x, S1, rfl, h1⟩ := am_p1_of h
    exact am_ai2l hx hb hd (hnx _ _ _ h1)
  case l2i =>
    simp only [am_chkI, decide_eq_true_eq, Bool.and_eq_true] at hc
    simp only [am_step] at h
    subst hc
    obtain ⟨x, S1, rfl, h1⟩ := am_p1_of h
    exact am_al2i hx hb hd (hnx _ _ _ h1)
  case i2b =>
    simp only [am_chkI, decide_eq_true_eq, Bool.and_eq_true] at hc
    simp only [am_step] at h
    subst hc
    obtain ⟨x, S1, rfl, h1⟩ := am_p1_of h
    exact am_ai2b hx hb hd (hnx _ _ _ h1)
  case dup =>
    simp only [am_chkI, decide_eq_true_eq, Bool.and_eq_true] at hc
    simp only [am_step] at h
    subst hc
    cases S with
    | nil => exact h.elim
    | cons v S =>
      obtain ⟨h1, h2⟩ := am_ifN_of h
      exact am_dup hx hb h1 hd (hnx _ _ _ h2)
  case pop =>
    simp only [am_chkI, decide_eq_true_eq, Bool.and_eq_true] at hc
    simp only [am_step] at h
    subst hc
    cases S with
    | nil => exact h.elim
    | cons v S =>
      obtain ⟨h1, h2⟩ := am_ifN_of h
      exact am_pop1 hx hb h1 hd (hnx _ _ _ h2)
  case dup_x1 =>
    simp only [am_chkI, decide_eq_true_eq, Bool.and_eq_true] at hc
    simp only [am_step] at h
    subst hc
    match S, h with
    | u :: v :: S, h =>
      obtain ⟨h1, h2⟩ := am_ifN_of h
      obtain ⟨h3, h4⟩ := am_ifN_of h2
      exact am_dup_x1 hx hb h1 h3 hd (hnx _ _ _ h4)
    | [], h => exact h.elim
    | [_], h => exact h.elim
  case dup2 =>
    simp only [am_chkI, decide_eq_true_eq, Bool.and_eq_true] at hc
    simp only [am_step] at h
    subst hc
    match S, h with
    | u :: v :: S, h =>
      obtain ⟨h1, h2⟩ := am_ifN_of h
      obtain ⟨h3, h4⟩ := am_ifN_of h2
      exact am_dup2 hx hb h1 h3 hd (hnx _ _ _ h4)
    | [], h => exact h.elim
    | [_], h => exact h.elim
  case if_icmp cd off =>
    simp only [am_chkI, decide_eq_true_eq, Bool.and_eq_true] at hc
    simp only [am_step] at h
    obtain ⟨rfl, hc⟩ := hc
    obtain ⟨y, S1, rfl, h1⟩ := am_p1_of h
    obtain ⟨x, S2, rfl, h2⟩ := am_p1_of h1
    cases cd with
    | eq => exact am_icmp_eq hx hb hd (am_tgt_of hc) (am_brm (hjp _ _ _ _) (hnx _ _ _) h2)
    | ne => exact am_icmp_ne hx hb hd (am_tgt_of hc) (am_brm (hjp _ _ _ _) (hnx _ _ _) h2)
    | lt => exact am_icmp_lt hx hb hd (am_tgt_of hc) (am_brm (hjp _ _ _ _) (hnx _ _ _) h2)
    | ge => exact am_icmp_ge hx hb hd (am_tgt_of hc) (am_brm (hjp _ _ _ _) (hnx _ _ _) h2)
    | gt => exact am_icmp_gt hx hb hd (am_tgt_of hc) (am_brm (hjp _ _ _ _) (hnx _ _ _) h2)
    | le => exact am_icmp_le hx hb hd (am_tgt_of hc) (am_brm (hjp _ _ _ _) (hnx _ _ _) h2)
  case ifCond cd off =>
    simp only [am_chkI, decide_eq_true_eq, Bool.and_eq_true] at hc
    simp only [am_step] at h
    obtain ⟨rfl, hc⟩ := hc
    obtain ⟨x, S2, rfl, h2⟩ := am_p1_of h
    cases cd with
    | eq => exact am_if_eq hx hb hd (am_tgt_of hc) (am_brm (hjp _ _ _ _) (hnx _ _ _) h2)
    | ne => exact am_if_ne hx hb hd (am_tgt_of hc) (am_brm (hjp _ _ _ _) (hnx _ _ _) h2)
    | lt => exact am_if_lt hx hb hd (am_tgt_of hc) (am_brm (hjp _ _ _ _) (hnx _ _ _) h2)
    | ge => exact am_if_ge hx hb hd (am_tgt_of hc) (am_brm (hjp _ _ _ _) (hnx _ _ _) h2)
    | gt => exact am_if_gt hx hb hd (am_tgt_of hc) (am_brm (hjp _ _ _ _) (hnx _ _ _) h2)
    | le => exact am_if_le hx hb hd (am_tgt_of hc) (am_brm (hjp _ _ _ _) (hnx _ _ _) h2)
  case ifnull off =>
    simp only [am_chkI, decide_eq_true_eq, Bool.and_eq_true] at hc
    simp only [am_step] at h
    obtain ⟨rfl, hc⟩ := hc
    obtain ⟨x, S2, rfl, h2⟩ := am_p1_of h
    exact am_ifnull hx hb hd (am_tgt_of hc) (am_itm (hjp _ _ _ _) (hnx _ _ _) h2)
  case ifnonnull off =>
    simp only [am_chkI, decide_eq_true_eq, Bool.and_eq_true] at hc
    simp only [am_step] at h
    obtain ⟨rfl, hc⟩ := hc
    obtain ⟨x, S2, rfl, h2⟩ := am_p1_of h
    exact am_ifnonnull hx hb hd (am_tgt_of hc) (am_itm (hnx _ _ _) (hjp _ _ _ _) h2)
  case if_acmp cd off =>
    simp only [am_chkI, decide_eq_true_eq, Bool.and_eq_true] at hc
    simp only [am_step] at h
    obtain ⟨rfl, hc⟩ := hc
    cases cd with
    | ne => exact h.elim
    | eq =>
      obtain ⟨y, S1, rfl, h1⟩ := am_p1_of h
      obtain ⟨x, S2, rfl, h2⟩ := am_p1_of h1
      exact am_acmp_eq hx hb hd (am_tgt_of hc) (am_itm (hjp _ _ _ _) (hnx _ _ _) h2)
  case goto off =>
    simp only [am_chkI, decide_eq_true_eq, Bool.and_eq_true] at hc
    simp only [am_step] at h
    obtain ⟨rfl, hc⟩ := hc
    exact am_goto hx hb hd (am_tgt_of hc) (hjp _ _ _ _ h)
  case tableswitch dflt lo hi offs =>
    simp only [am_chkI, decide_eq_true_eq, Bool.and_eq_true] at hc
    simp only [am_step] at h
    rw [List.all_eq_true] at hc
    obtain ⟨⟨hc1, hc2⟩, hc3⟩ := hc
    obtain ⟨x, S1, rfl, h1⟩ := am_p1_of h
    intro H locs ls q1 q2 q3 q4 q5 q6 q7
    have ox : am_r32 x := am_hd q7
    have e0 := am_t32 ox
    rcases am_sw_of h1 with ⟨g1, g2, o, g3, g4⟩ | ⟨g1, g4⟩
    · rw [Array.length_toList] at g2
      have hmem : o ∈ offs.toList := List.mem_of_getElem? g3
      refine lv_tableIn hx hb hd (x := Int32.ofInt x) (by rw [e0]; omega) (by rw [e0]; omega) (by rw [e0, ← Array.getElem?_toList]; exact g3) (am_tgt_of (hc2 o hmem)) ?_
      exact hjp _ _ _ _ g4 H locs ls q1 q2 q3 q4 q5 q6 (am_tl q7)
    · rw [Array.length_toList] at g1
      refine lv_tableOut hx hb hd (x := Int32.ofInt x) (by rw [e0]; omega) (am_tgt_of hc1) ?_
      exact hjp _ _ _ _ g4 H locs ls q1 q2 q3 q4 q5 q6 (am_tl q7)
  case getfield idx =>
    simp only [am_chkI, decide_eq_true_eq, Bool.and_eq_true] at hc
    simp only [am_step] at h
    obtain ⟨rfl, hc⟩ := hc
    obtain ⟨a, S1, rfl, h1⟩ := am_p1_of h
    obtain ⟨h2, h3⟩ := am_if_of h1
    obtain ⟨q, f1, f2, f3, f4⟩ := am_fl_of hT hK hc
    rw [f3] at h3
    exact am_getf hx hb hown hT hK f1 f2 f4 h2 hd (hnx _ _ _ h3)
  case putfield idx =>
    simp only [am_chkI, decide_eq_true_eq, Bool.and_eq_true] at hc
    simp only [am_step] at h
    obtain ⟨⟨rfl, hc⟩, hp⟩ := hc
    obtain ⟨q, f1, f2, f3, f4⟩ := am_fl_of hT hK hc
    match S, h with
    | [], h => exact h.elim
    | (t, x) :: S, h =>
      obtain ⟨e1, h⟩ := am_if_of h
      obtain ⟨a, S1, rfl, h1⟩ := am_p1_of h
      obtain ⟨h2, h3⟩ := am_if_of h1
      obtain ⟨h4, h5⟩ := am_if_of h3
      rw [f3] at e1
      unfold am_pchk at hp
      rw [f1] at hp
      simp only [Bool.and_eq_true, decide_eq_true_eq] at hp
      obtain ⟨p1, p2⟩ := hp
      have hnext : nx L S1 (am_upd σ a r2 x) ∧ (r3.tail.headD 0 = 0 ∨ (x = 0 ∨ x = 1)) := by
        by_cases z : r3.tail.headD 0 = 0
        · rw [if_pos z] at h5; exact ⟨h5, Or.inl z⟩
        · rw [if_neg z] at h5
          obtain ⟨h6, h7⟩ := am_if_of h5
          exact ⟨h7, Or.inr h6⟩
      have key : ∀ q : am_ok (t, x), am_fok (am_ft r1 r2) x := by
        intro ok
        rw [e1] at ok
        cases hft : am_ft r1 r2 <;> rw [hft] at p2 ok <;> first | exact ok | (rcases hnext.2 with z | z <;> first | exact z | exact absurd z (by simpa using p2)) | (exact absurd p2 (by simp))
      intro H locs ls q1 q2 q3 q4 q5 q6 q7
      exact am_putf hx hb hown hT hK f1 f2 p1 f4 h2 h4 e1 (key (am_hd q7)) hd (hnx _ _ _ hnext.1) H locs ls q1 q2 q3 q4 q5 q6 q7
  case iaload =>
    simp only [am_chkI, decide_eq_true_eq, Bool.and_eq_true] at hc
    simp only [am_step] at h
    subst hc
    obtain ⟨j, S1, rfl, h1⟩ := am_p1_of h
    obtain ⟨a, S2, rfl, h2⟩ := am_p1_of h1
    obtain ⟨h3, h4, h5, h6⟩ := am_if_of h2
    exact am_iaload1 hx hb hK h3 h4 h5 hd (hnx _ _ _ h6)
  case laload =>
    simp only [am_chkI, decide_eq_true_eq, Bool.and_eq_true] at hc
    simp only [am_step] at h
    subst hc
    obtain ⟨j, S1, rfl, h1⟩ := am_p1_of h
    obtain ⟨a, S2, rfl, h2⟩ := am_p1_of h1
    obtain ⟨h3, h4, h5, h6⟩ := am_if_of h2
    exact am_laload4 hx hb hK h3 h4 h5 hd (hnx _ _ _ h6)
  case baload =>
    simp only [am_chkI, decide_eq_true_eq, Bool.and_eq_true] at hc
    simp only [am_step] at h
    obtain ⟨rfl, hc⟩ := hc
    obtain ⟨j, S1, rfl, h1⟩ := am_p1_of h
    obtain ⟨a, S2, rfl, h2⟩ := am_p1_of h1
    obtain ⟨h3, h4, h5, h6⟩ := am_if_of h2
    rcases hc with rfl | rfl
    · exact am_baload2 hx hb hK h3 h4 h5 hd (hnx _ _ _ h6)
    · exact am_baload3 hx hb hK h3 h4 h5 hd (hnx _ _ _ h6)
  case aaload =>
    simp only [am_chkI, decide_eq_true_eq, Bool.and_eq_true] at hc
    simp only [am_step] at h
    obtain ⟨rfl, hc⟩ := hc
    obtain ⟨j, S1, rfl, h1⟩ := am_p1_of h
    obtain ⟨a, S2, rfl, h2⟩ := am_p1_of h1
    obtain ⟨h3, h4, h5, h6⟩ := am_if_of h2
    split at hc
    · cases hc
    · rename_i t ht
      rw [decide_eq_true_eq] at hc
      exact am_aaload hx hb hK ht hc.2.1 hc.2.2 hc.1 h3 h4 h5 hd (hnx _ _ _ h6)
  case iastore =>
    simp only [am_chkI, decide_eq_true_eq, Bool.and_eq_true] at hc
    simp only [am_step] at h
    subst hc
    obtain ⟨x, S0, rfl, h0⟩ := am_p1_of h
    obtain ⟨j, S1, rfl, h1⟩ := am_p1_of h0
    obtain ⟨a, S2, rfl, h2⟩ := am_p1_of h1
    obtain ⟨h3, h4, h5, h6⟩ := am_if_of h2
    exact am_iastore1 hx hb hK h3 h4 h5 hd (hnx _ _ _ h6)
  case lastore =>
    simp only [am_chkI, decide_eq_true_eq, Bool.and_eq_true] at hc
    simp only [am_step] at h
    subst hc
    obtain ⟨x, S0, rfl, h0⟩ := am_p1_of h
    obtain ⟨j, S1, rfl, h1⟩ := am_p1_of h0
    obtain ⟨a, S2, rfl, h2⟩ := am_p1_of h1
    obtain ⟨h3, h4, h5, h6⟩ := am_if_of h2
    exact am_lastore4 hx hb hK h3 h4 h5 hd (hnx _ _ _ h6)
  case bastore =>
    simp only [am_chkI, decide_eq_true_eq, Bool.and_eq_true] at hc
    simp only [am_step] at h
    obtain ⟨rfl, hc⟩ := hc
    obtain ⟨x, S0, rfl, h0⟩ := am_p1_of h
    obtain ⟨j, S1, rfl, h1⟩ := am_p1_of h0
    obtain ⟨a, S2, rfl, h2⟩ := am_p1_of h1
    obtain ⟨h3, h4⟩ := am_if_of h2
    rcases hc with rfl | rfl
    · rw [if_pos rfl] at h4
      exact am_bastore2 hx hb hK h3 h4.1 h4.2.1 hd (hnx _ _ _ h4.2.2)
    · rw [if_neg (by decide)] at h4
      obtain ⟨h5, h6⟩ := am_if_of h4
      exact am_bastore3 hx hb hK h5 h3 h6.1 h6.2.1 hd (hnx _ _ _ h6.2.2)
  case aastore =>
    simp only [am_chkI, decide_eq_true_eq, Bool.and_eq_true] at hc
    simp only [am_step] at h
    obtain ⟨rfl, hc⟩ := hc
    obtain ⟨x, S0, rfl, h0⟩ := am_p1_of h
    obtain ⟨j, S1, rfl, h1⟩ := am_p1_of h0
    obtain ⟨a, S2, rfl, h2⟩ := am_p1_of h1
    obtain ⟨h3, h4⟩ := am_if_of h2
    obtain ⟨h5, h6, h7, h8⟩ := am_if_of h4
    split at hc
    · cases hc
    · rename_i q hq
      rw [decide_eq_true_eq] at hc
      exact am_aastore hx hb hK hq hc.2.2 hc.1 hc.2.1 h3 h6 h7 h5 hd (hnx _ _ _ h8)
  case arraylength =>
    simp only [am_chkI, decide_eq_true_eq, Bool.and_eq_true] at hc
    simp only [am_step] at h
    obtain ⟨rfl, hc1, hc2⟩ := hc
    obtain ⟨a, S2, rfl, h2⟩ := am_p1_of h
    obtain ⟨h3, h4⟩ := am_if_of h2
    obtain ⟨t, ht⟩ : ∃ t, am_ak[r1 - 1]? = some t := ⟨_, List.getElem?_eq_getElem (by show r1 - 1 < 9; omega)⟩
    exact am_alen hx hb hK ht hc1 h3 hd (hnx _ _ _ h4)
  case ireturn =>
    simp only [am_step] at h
    split at h <;> simp at h
  case lreturn =>
    simp only [am_step] at h
    split at h <;> simp at h
  case areturn =>
    simp only [am_step] at h
    split at h <;> simp at h
  case return_ =>
    simp only [am_step] at h
    split at h <;> simp at h
  case invokestatic idx =>
    simp only [am_chkI, decide_eq_true_eq, Bool.and_eq_true] at hc
    simp only [am_step] at h
    obtain ⟨rfl, hc⟩ := hc
    by_cases z : r1 = 9999
    · rw [if_pos z] at hc
      rw [decide_eq_true_eq] at hc
      have h' := h
      rw [if_pos z] at h'
      obtain ⟨nn, S0, rfl, h0⟩ := am_p1_of h'
      obtain ⟨dp, S1, rfl, h1⟩ := am_p1_of h0
      obtain ⟨d, S2, rfl, h2⟩ := am_p1_of h1
      obtain ⟨sp, S3, rfl, h3⟩ := am_p1_of h2
      obtain ⟨a, S4, rfl, h4⟩ := am_p1_of h3
      obtain ⟨g1, h5⟩ := am_if_of h4
      obtain ⟨g2, h6⟩ := am_if_of h5
      obtain ⟨g3, k1, k2, k3, k4, k5, k6⟩ := am_if_of h6
      have hz := hrn rfl (by omega)
      exact am_copyB hx hb hml hown (hT _ (am_in_tbl (am_wd_in hc) rfl)) (hT _ am_native.1) (hT _ am_native.2.1) (hT _ am_native.2.2) hK g1 g2 k1 k2 k3 k4 k5 hz.1 (by rw [am_szc, am_nfw]; omega) hd (hnx _ _ _ k6)
    · rw [if_neg z] at hc
      have h' := h
      rw [if_neg z] at h'
      by_cases z1 : r1 = 9991
      · rw [if_pos z1] at hc h'
        rw [decide_eq_true_eq] at hc
        obtain ⟨y, S1, rfl, h1⟩ := am_p1_of h'
        obtain ⟨x, S2, rfl, h2⟩ := am_p1_of h1
        obtain ⟨g1, g2⟩ := am_if_of h2
        exact am_mminI hx hb hml hown hT (hT _ (am_in_tbl (am_wd_in hc) rfl)) (hrn rfl (by omega)) g1 hcl1 hcl2 hd (hnx _ _ _ g2)
      rw [if_neg z1] at hc h'
      by_cases z2 : r1 = 9992
      · rw [if_pos z2] at hc h'
        rw [decide_eq_true_eq] at hc
        obtain ⟨y, S1, rfl, h1⟩ := am_p1_of h'
        obtain ⟨x, S2, rfl, h2⟩ := am_p1_of h1
        obtain ⟨g1, g2⟩ := am_if_of h2
        exact am_mminL hx hb hml hown hT (hT _ (am_in_tbl (am_wd_in hc) rfl)) (hrn rfl (by omega)) g1 hcl1 hcl2 hd (hnx _ _ _ g2)
      rw [if_neg z2] at hc h'
      by_cases z3 : r1 = 9993
      · rw [if_pos z3] at hc h'
        rw [decide_eq_true_eq] at hc
        obtain ⟨y, S1, rfl, h1⟩ := am_p1_of h'
        obtain ⟨x, S2, rfl, h2⟩ := am_p1_of h1
        obtain ⟨g1, g2⟩ := am_if_of h2
        exact am_mmaxL hx hb hml hown hT (hT _ (am_in_tbl (am_wd_in hc) rfl)) (hrn rfl (by omega)) g1 hcl1 hcl2 hd (hnx _ _ _ g2)
      rw [if_neg z3] at hc h'
      obtain ⟨a, ha, e1, xs, S', k1, rfl, k3, k4⟩ := am_call_of h'
      rw [List.all_eq_true] at hc
      have hc1 := hc a ha
      simp only [Bool.or_eq_true, Bool.and_eq_true, decide_eq_true_eq] at hc1
      have hc2 := hc1.resolve_left (fun q => q e1)
      unfold am_chkR at hrm
      rw [List.all_eq_true] at hrm
      have hrm1 := hrm a ha
      rw [decide_eq_true_eq] at hrm1
      exact am_callS hx hb hml hown hT hK a (hcal a ha) hc2.1 (am_in_tbl (am_wd_in hc2.2) rfl) k1 hrm1.1 hrm1.2.1 hrm1.2.2.1 hrm1.2.2.2 hcl1 hcl2 k3 hd k4 (fun x σ' q => hnx _ _ _ q)
  case invokevirtual idx =>
    simp only [am_chkI, decide_eq_true_eq, Bool.and_eq_true] at hc
    simp only [am_step] at h
    obtain ⟨rfl, hc⟩ := hc
    obtain ⟨a, ha, e1, xs, S', k1, rfl, k3, k4⟩ := am_call_of h
    split at hc
    · cases hc
    · rename_i q hq
      rw [List.all_eq_true] at hc
      have hc1 := hc a ha
      simp only [Bool.or_eq_true, Bool.and_eq_true, decide_eq_true_eq, Bool.not_eq_true'] at hc1
      have hc2 := hc1.resolve_left (fun q => q e1)
      unfold am_chkR at hrm
      rw [List.all_eq_true] at hrm
      have hrm1 := hrm a ha
      rw [decide_eq_true_eq] at hrm1
      match xs, k1, k4 with
      | [], k1, k4 => exact k4.elim
      | ob :: xs, k1, k4 =>
        obtain ⟨k5, k6⟩ := am_if_of k4
        exact am_callV hx hb hml hown hT hK a (hcal a ha) hc2.1.1 (am_in_tbl (am_wd_in hc2.2) rfl) hq hc2.1.2 k5 k1 hrm1.1 hrm1.2.1 hrm1.2.2.1 hrm1.2.2.2 hcl1 hcl2 k3 hd k6 (fun x σ' q => hnx _ _ _ q)
  all_goals exact False.elim h
end AMN
