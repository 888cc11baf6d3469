/-! THE ABSTRACT MACHINE, part 8: a method by its blocks -/
theorem am_getL_of : ∀ {r : List (Nat × Nat)} {L : List (Nat × AV)} {k : List Int → Prop}, am_getL r L k → ∃ a, k a ∧ ∀ (v' : List Int) (K : List (Nat × AV) → List Int → Prop), am_mkL r (a ++ v') K → ∃ L', K L' v' ∧ ∀ q ∈ L', q ∈ L
  | [], L, k, h => ⟨[], h, fun v' K hK => ⟨[], hK, fun q hq => absurd hq List.not_mem_nil⟩⟩
  | q :: r, L, k, h => by
    unfold am_getL at h
    obtain ⟨x, h1, h2⟩ := am_lkt_of h
    obtain ⟨a, h3, h4⟩ := am_getL_of h2
    refine ⟨x :: a, h3, fun v' K hK => ?_⟩
    obtain ⟨L', g1, g2⟩ := h4 v' _ hK
    refine ⟨_, g1, fun z hz => ?_⟩
    rcases List.mem_cons.mp hz with rfl | hz
    · exact am_lk_mem h1
    · exact g2 z hz
theorem am_getS_of : ∀ {r : List Nat} {S : List AV} {k : List Int → Prop}, am_getS r S k → ∃ b, k b ∧ ∀ K : List AV → Prop, am_mkS r b K → K S
  | [], S, k, h => by
    unfold am_getS at h
    cases S with
    | nil => exact ⟨[], h, fun K hK => hK⟩
    | cons v S => exact h.elim
  | t :: r, S, k, h => by
    unfold am_getS at h
    obtain ⟨x, S', rfl, h2⟩ := am_p1_of h
    obtain ⟨b, h3, h4⟩ := am_getS_of h2
    exact ⟨x :: b, h3, fun K hK => h4 _ hK⟩
theorem am_arr2_of {t : aT} {L : List (Nat × AV)} {S : List AV} {k : List Int → Prop} (h : am_arr2 t L S k) : ∃ v, k v ∧ ∀ P : List (Nat × AV) → List AV → Prop, am_mk t v P → ∃ L', P L' S ∧ ∀ q ∈ L', q ∈ L := by
  obtain ⟨a, h1, h2⟩ := am_getL_of h
  obtain ⟨b, h3, h4⟩ := am_getS_of h1
  refine ⟨a ++ b, h3, fun P hP => ?_⟩
  obtain ⟨L', g1, g2⟩ := h2 b _ hP
  exact ⟨L', h4 _ g1, g2⟩
theorem am_mkL_mono : ∀ {r : List (Nat × Nat)} {v : List Int} {K K' : List (Nat × AV) → List Int → Prop}, (∀ L v, K L v → K' L v) → am_mkL r v K → am_mkL r v K'
  | [], v, K, K', h, hk => h _ _ hk
  | q :: r, v, K, K', h, hk => by
    unfold am_mkL at hk ⊢
    cases v with
    | nil => exact hk.elim
    | cons x v => exact am_mkL_mono (fun L v' q => h _ _ q) hk
theorem am_mkS_mono : ∀ {r : List Nat} {v : List Int} {K K' : List AV → Prop}, (∀ S, K S → K' S) → am_mkS r v K → am_mkS r v K'
  | [], v, K, K', h, hk => by
    unfold am_mkS at hk ⊢
    cases v with
    | nil => exact h _ hk
    | cons x v => exact hk.elim
  | t :: r, v, K, K', h, hk => by
    unfold am_mkS at hk ⊢
    cases v with
    | nil => exact hk.elim
    | cons x v => exact am_mkS_mono (fun S q => h _ q) hk
theorem am_mk_mono {t : aT} {v : List Int} {P P' : List (Nat × AV) → List AV → Prop} (h : ∀ L S, P L S → P' L S) (hk : am_mk t v P) : am_mk t v P' := am_mkL_mono (fun L v' q => am_mkS_mono (fun S => h L S) q) hk
theorem am_drop_in {t : Nat} : ∀ {full : List aE}, ∀ e ∈ am_drop t full, e ∈ full
  | [], e, h => h
  | z :: r, e, h => by
    unfold am_drop at h
    by_cases q : z.1 = t
    · rw [if_pos q] at h; exact h
    · rw [if_neg q] at h; exact List.mem_cons_of_mem _ (am_drop_in e h)
def am_chkL (tm : List aT) (e : aE) : Bool := decide (e.2.1 = 0) || decide ((tm[e.2.1 - 1]?).map (fun t => t.1) = some e.1)
section AMT
variable {p : Program} {l : Launch} {e : Env} {R : Room} {s : State} {m : MethodId} {args : Array Value} {below : List Frame} {meth : Method} {c : Code} {w : AW} {G : AG} {nL : Nat}
variable {cc : ByteArray} {Q : Int → AMem → Prop} {own : String} {rt : Nat} {ret : Option FieldType} {cal : List AC}
theorem am_M_sub {QQ : State → Prop} {cells slots pc : Nat} {L L' : List (Nat × AV)} {S : List AV} {σ : AMem} (h : am_M p l e R s m args below meth c QQ w G cells slots nL pc L' S σ) (hL : ∀ q ∈ L', q ∈ L) : am_M p l e R s m args below meth c QQ w G cells slots nL pc L S σ :=
  fun H locs ls r1 r2 r3 r4 r5 r6 r7 => h H locs ls r1 r2 r3 r4 ⟨r5.1, r5.2.1, fun q hq => by
    obtain ⟨z, hz, rfl⟩ := List.mem_map.mp hq
    exact r5.2.2 _ (List.mem_map.mpr ⟨z, hL z hz, rfl⟩)⟩ (fun q hq => r6 q (hL q hq)) r7
theorem am_blk_ok (hx : p.tables.exec = Jvm.exec) (hb : c.code = cc) (hml : c.maxLocals = nL) (hlk : meth.locks = false) (hr : meth.sig.returnType = ret) (hrt : rt = am_rtag ret) (hown : s.vm.findClass own = some m.cls) (hT : ∀ q ∈ am_tbl, q.before args s = true) (hK : am_K w s) (hcal : ∀ a ∈ cal, am_S l w G a) (hrm : am_chkR R cal = true)
    {full : List aE} {tm : List aT} {X : Nat → List Int → AMem → Prop} (hrn : (∃ e ∈ full, am_isS e.2.2.1 = true ∧ 9990 ≤ e.2.2.2.2.1) → 1 ≤ R.frames ∧ 34 ≤ R.locals) (hchk : ∀ e ∈ full, am_chk own cc nL ret cal e = true) (hlab : ∀ e ∈ full, am_chkL tm e = true)
    (hX : ∀ j v σ, X j v σ → ∀ t, tm[j]? = some t → am_mk t v (fun L S => am_M p l e R s m args below meth c (MQ below (am_Qc w G rt Q) args s 0 0 (fun q => w.1 ≤ q)) w G 0 0 nL t.1 L S σ)) : ∀ f fs pc cs L S σ, (∀ e ∈ cs, e ∈ full) → am_blk G cal full tm X Q f fs pc cs L S σ → am_M p l e R s m args below meth c (MQ below (am_Qc w G rt Q) args s 0 0 (fun q => w.1 ≤ q)) w G 0 0 nL pc L S σ := by
  intro f
  induction f with
  | zero => intro fs pc cs L S σ _ h; exact h.elim
  | succ f ih =>
    intro fs pc cs L S σ hcs h
    cases cs with
    | nil => exact h.elim
    | cons e0 cs' =>
      obtain ⟨pc', lab, i, n, r1, r2, r3⟩ := e0
      obtain ⟨e1, hh⟩ := am_if_of h
      clear h
      have h := hh
      clear hh
      subst e1
      have hmem := hcs _ List.mem_cons_self
      have hck := hchk _ hmem
      unfold am_chk at hck
      rw [Bool.and_eq_true, decide_eq_true_eq] at hck
      obtain ⟨hd, hci⟩ := hck
      by_cases hl : lab = 0 ∨ fs = true
      · rw [if_pos hl] at h
        split at h
        · split at h
          · rename_i pc2 lab2 cd off z1 z2 cs2
            obtain ⟨⟨g1, g2⟩, h0⟩ := am_if_of h
            subst g1
            obtain ⟨y, S1, rfl, h1⟩ := am_p1_of h0
            obtain ⟨x, S2, rfl, h2⟩ := am_p1_of h1
            have hmem2 := hcs _ (List.mem_cons_of_mem _ List.mem_cons_self)
            have hck2 := hchk _ hmem2
            unfold am_chk at hck2
            rw [Bool.and_eq_true, decide_eq_true_eq] at hck2
            obtain ⟨hd2, hci2⟩ := hck2
            simp only [am_chkI, decide_eq_true_eq, Bool.and_eq_true] at hci hci2
            subst hci
            obtain ⟨e2, ht⟩ := hci2
            rw [e2] at hd2
            have ja := ih false (((pc' + 1 : Nat) : Int) + off).toNat (am_drop (((pc' + 1 : Nat) : Int) + off).toNat full) L S2 σ (fun e he => am_drop_in e he)
            have jb := ih false (pc' + 1 + 3) cs2 L S2 σ (fun e he => hcs e (List.mem_cons_of_mem _ (List.mem_cons_of_mem _ he)))
            cases cd with
            | eq => exact am_lcmp_eq hx hb hd hd2 (am_tgt_of ht) (am_brm ja jb h2)
            | ne => exact am_lcmp_ne hx hb hd hd2 (am_tgt_of ht) (am_brm ja jb h2)
            | lt => exact am_lcmp_lt hx hb hd hd2 (am_tgt_of ht) (am_brm ja jb h2)
            | ge => exact am_lcmp_ge hx hb hd hd2 (am_tgt_of ht) (am_brm ja jb h2)
            | gt => exact am_lcmp_gt hx hb hd hd2 (am_tgt_of ht) (am_brm ja jb h2)
            | le => exact am_lcmp_le hx hb hd hd2 (am_tgt_of ht) (am_brm ja jb h2)
          · exact h.elim
        · exact am_step_ok hx hb hml hlk hr hrt hown hT hK hcal hrm (fun z1 z => hrn ⟨_, hmem, z1, z⟩) hd hci (fun L S σ q => ih false _ cs' L S σ (fun e he => hcs e (List.mem_cons_of_mem _ he)) q) (fun off L S σ q => ih false _ _ L S σ (fun e he => am_drop_in e he) q) h
      · rw [if_neg hl] at h
        have hlz : lab ≠ 0 := fun q => hl (Or.inl q)
        have hlb := hlab _ hmem
        unfold am_chkL at hlb
        rw [Bool.or_eq_true, decide_eq_true_eq, decide_eq_true_eq] at hlb
        have hlb2 := hlb.resolve_left hlz
        split at h
        · exact h.elim
        · rename_i t ht
          dsimp only at hlb2
          rw [ht] at hlb2
          have e3 : t.1 = pc' := Option.some.inj hlb2
          obtain ⟨v, h1, h2⟩ := am_arr2_of h
          obtain ⟨L', g1, g2⟩ := h2 _ (hX _ v σ h1 t ht)
          rw [e3] at g1
          exact am_M_sub g1 g2
def am_argp : Nat → List Nat → List (Nat × Nat)
  | _, [] => []
  | i, t :: r => (i, t) :: am_argp (if t = 1 then i + 2 else i + 1) r
def am_argn : List Nat → Nat
  | [] => 0
  | t :: r => (if t = 1 then 2 else 1) + am_argn r
theorem am_arg_mk (b : Nat) : ∀ (tags : List Nat) (xs : List Int) (i : Nat) (K : List (Nat × AV) → List Int → Prop), xs.length = tags.length → am_mkL (am_argp i tags) xs K → ∃ L, K L [] ∧ L.map (am_lv b) = lv_args i (am_vals b tags xs) ∧ ∀ q ∈ L, q.2 ∈ List.zip tags xs
  | [], [], i, K, _, h => ⟨[], h, rfl, fun q hq => absurd hq List.not_mem_nil⟩
  | [], x :: xs, i, K, hl, h => by simp at hl
  | t :: tags, [], i, K, hl, h => by simp at hl
  | t :: tags, x :: xs, i, K, hl, h => by
    obtain ⟨L, h1, h2, h3⟩ := am_arg_mk b tags xs _ _ (by simpa using hl) h
    refine ⟨_, h1, ?_, ?_⟩
    · rw [List.map_cons, h2]
      show (i, am_val b (t, x)) :: _ = lv_args i (am_val b (t, x) :: am_vals b tags xs)
      rw [lv_args, am_cat]
      by_cases ht : t = 1
      · simp [ht]
      · simp [ht]
    · intro q hq
      rcases List.mem_cons.mp hq with rfl | hq
      · exact List.mem_cons_self
      · exact List.mem_cons_of_mem _ (h3 q hq)
theorem am_argn_len (b : Nat) : ∀ (tags : List Nat) (xs : List Int), xs.length = tags.length → (lg_sl (am_vals b tags xs)).length = am_argn tags
  | [], [], _ => rfl
  | [], x :: xs, hl => by simp at hl
  | t :: tags, [], hl => by simp at hl
  | t :: tags, x :: xs, hl => by
    have ih := am_argn_len b tags xs (by simpa using hl)
    show (lg_sl (am_val b (t, x) :: am_vals b tags xs)).length = _
    unfold lg_sl at ih ⊢
    rw [List.flatMap_cons, List.length_append, ih, am_cat]
    show _ = (if t = 1 then 2 else 1) + am_argn tags
    by_cases ht : t = 1 <;> simp [ht]
def am_chkN (full : List aE) (rm : Room) : Bool := full.all (fun e => !am_isS e.2.2.1 || decide (e.2.2.2.2.1 < 9990)) || decide (1 ≤ rm.frames ∧ 34 ≤ rm.locals)
/-- THE METHOD BY ITS BLOCKS -/
theorem am_sound (k : Nat) (y : MethodName) (cc : ByteArray) (nL : Nat) (ret : Option FieldType) (tags : List Nat) (st : Bool) (rm : Room) (B : (Nat → List Int → AMem → Prop) → (Int → AMem → Prop) → Nat → List Int → AMem → Prop) (own : String)
    (full : List aE) (tm : List aT) (fuel : Nat) (hms : am_MSp (k, (y, cc, nL, ret), tags, rt, st, rm, am_T B)) (hpl : plainName y.cls = true) (ho : own = y.cls) (hrt : rt = am_rtag ret) (hcal : ∀ a ∈ cal, am_S l w G a)
    (hst : (am_chkR rm cal && am_chkN full rm && full.all (am_chk own cc nL ret cal) && full.all (am_chkL tm) && decide (tm[0]? = some (0, am_argp 0 tags, [])) && decide (am_argn tags ≤ nL)) = true)
    (hB : ∀ X Q j v σ, B X Q j v σ → am_at G cal full tm X Q fuel j v σ) : am_S l w G (k, (y, cc, nL, ret), tags, rt, st, rm, am_T B) := by
  simp only [Bool.and_eq_true, decide_eq_true_eq] at hst
  obtain ⟨⟨⟨⟨⟨hrm, hrn⟩, hchk⟩, hlab⟩, h0⟩, hn⟩ := hst
  rw [List.all_eq_true] at hchk hlab
  refine ⟨hms, fun xs σ Q hTm hlen => ?_⟩
  refine Met.ofW (cc := cc) (maxL := nL) (ret := ret) hpl rfl ?_
  intro p e s m args below meth c s₁ BB hml hv
  obtain ⟨rfl, hok, hrep, hK⟩ := hv
  have hx := BB.exec
  have hb := BB.bytes
  have hr := BB.returns
  have hts := atoms_spec (ws := Cond.code y cc nL ret :: am_tbl) BB.pre
  have hT : ∀ q ∈ am_tbl, q.before (am_vals w.1 tags xs).toArray s = true := fun q hq => hts q (List.mem_cons_of_mem _ hq)
  have hown : s.vm.findClass own = some m.cls := by rw [ho]; exact findClass_of_methodNamed BB.named
  have hlk := BB.notSynchronized
  have hrn' : (∃ e ∈ full, am_isS e.2.2.1 = true ∧ 9990 ≤ e.2.2.2.2.1) → 1 ≤ rm.frames ∧ 34 ≤ rm.locals := by
    rintro ⟨e, he, h8, h9⟩
    unfold am_chkN at hrn
    rw [Bool.or_eq_true] at hrn
    rcases hrn with h | h
    · rw [List.all_eq_true] at h
      have := h e he
      rw [h8, Bool.not_true, Bool.false_or, decide_eq_true_eq] at this
      omega
    · exact of_decide_eq_true h
  have key := hTm (fun j v σ' => ∀ t, tm[j]? = some t → am_mk t v (fun L S => am_M p l e rm s m (am_vals w.1 tags xs).toArray below meth c (MQ below (am_Qc w G rt Q) (am_vals w.1 tags xs).toArray s 0 0 (fun q => w.1 ≤ q)) w G 0 0 nL t.1 L S σ')) (fun j v σ' hBj t ht => by
    have h1 := hB _ _ _ _ _ hBj
    unfold am_at at h1
    rw [ht] at h1
    exact am_mk_mono (fun L S q => am_blk_ok (R := rm) hx hb hml hlk hr hrt hown hT hK hcal hrm hrn' hchk hlab (fun j v σ h => h) fuel true t.1 _ L S σ' (fun e he => am_drop_in e he) q) h1) (0, am_argp 0 tags, []) h0
  obtain ⟨L, h1, h2, h3⟩ := am_arg_mk w.1 tags xs 0 _ hlen key
  have hl := lv_entry (am_vals w.1 tags xs) (n := nL) (by rw [am_argn_len w.1 tags xs hlen]; exact hn)
  rw [lg_entry_eq]
  exact h1 s.heap [] _ hrep (fun q hq => absurd hq List.not_mem_nil) (Nat.le_refl _) (fun q _ => rfl) (by rw [h2]; exact hl) (fun q hq => hok _ (h3 q hq)) (fun v hv => absurd hv List.not_mem_nil)
end AMT
