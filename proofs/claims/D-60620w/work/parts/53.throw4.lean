/-! THROWING, part 4: a method that throws by its blocks -/
section AMZ
variable {p : Program} {l : Launch} {e : Env} {R : Room} {s : State} {m : MethodId} {args : Array Value} {below : List Frame} {meth : Method} {c : Code} {w : AW} {G : AG} {nL : Nat}
variable {cc : ByteArray} {E : Nat → AMem → Prop} {own : String} {ret : Option FieldType} {cal : List AC} {calX : List AX}
theorem am_blkX_ok (hx : p.tables.exec = Jvm.exec) (hb : c.code = cc) (hml : c.maxLocals = nL) (hlk : meth.locks = false) (hne : c.exceptionTable.isEmpty = true) (hown : s.vm.findClass own = some m.cls) (hT : ∀ q ∈ am_tbl, q.before args s = true) (hK : am_K w s) (hS0 : am_St w s s.heap) (hw0 : w.1 ≤ s.heap.size) (hcal : ∀ a ∈ cal, am_S l w G a) (hcalX : ∀ a ∈ calX, am_SX l w G a) (hrm : am_chkR R cal = true) (hrmX : am_chkRX R calX = true)
    {full : List aE} {tm : List aT} {X : Nat → List Int → AMem → Prop} (hrn : (∃ e ∈ full, am_isS e.2.2.1 = true ∧ 9990 ≤ e.2.2.2.2.1) → 1 ≤ R.frames ∧ 34 ≤ R.locals) (hchk : ∀ e ∈ full, am_chk own cc nL ret cal e = true) (hchkX : ∀ e ∈ full, am_chkX own calX e = true) (hlab : ∀ e ∈ full, am_chkL tm e = true)
    (hX : ∀ j v σ, X j v σ → ∀ t, tm[j]? = some t → am_mk t v (fun L S => am_M p l e R s m args below meth c (am_QQ w G E below args s) w G 0 0 nL t.1 L S σ)) : ∀ f fs pc cs L S σ, (∀ e ∈ cs, e ∈ full) → am_blkX G cal calX full tm X E f fs pc cs L S σ → am_M p l e R s m args below meth c (am_QQ w G E below args s) w G 0 0 nL pc L S σ := by
  intro f
  induction f with
  | zero => intro fs pc cs L S σ _ h; exact h.elim
  | succ f ih =>
    intro fs pc cs L S σ hcs h
    cases cs with
    | nil => exact h.elim
    | cons e0 cs' =>
      obtain ⟨pc', lab, i, n, r1, r2, r3⟩ := e0
      obtain ⟨e1, hh⟩ := am_if_of h
      clear h
      have h := hh
      clear hh
      subst e1
      have hmem := hcs _ List.mem_cons_self
      have hck := hchk _ hmem
      have hckX := hchkX _ hmem
      unfold am_chk at hck
      rw [Bool.and_eq_true, decide_eq_true_eq] at hck
      obtain ⟨hd, hci⟩ := hck
      by_cases hl : lab = 0 ∨ fs = true
      · rw [if_pos hl] at h
        have hnx : ∀ L S σ, am_blkX G cal calX full tm X E f false (pc' + n) cs' L S σ → am_M p l e R s m args below meth c (am_QQ w G E below args s) w G 0 0 nL (pc' + n) L S σ := fun L S σ q => ih false _ cs' L S σ (fun e he => hcs e (List.mem_cons_of_mem _ he)) q
        have hjp : ∀ off L S σ, am_blkX G cal calX full tm X E f false ((pc' : Int) + off).toNat (am_drop ((pc' : Int) + off).toNat full) L S σ → am_M p l e R s m args below meth c (am_QQ w G E below args s) w G 0 0 nL ((pc' : Int) + off).toNat L S σ := fun off L S σ q => ih false _ _ L S σ (fun e he => am_drop_in e he) q
        have hst : ∀ i, decode cc pc' = .ok (i, n) → am_chkI own nL ret cal pc' i n r1 r2 r3 = true → (am_isS i = true → 9990 ≤ r1 → 1 ≤ R.frames ∧ 34 ≤ R.locals) → am_step G cal (fun _ _ => False) (fun L S σ => am_blkX G cal calX full tm X E f false (pc' + n) cs' L S σ) (fun off L S σ => am_blkX G cal calX full tm X E f false ((pc' : Int) + off).toNat (am_drop ((pc' : Int) + off).toNat full) L S σ) i r1 r2 r3 L S σ → am_M p l e R s m args below meth c (am_QQ w G E below args s) w G 0 0 nL pc' L S σ :=
          fun i hd hci hz q => am_stepN_ok hx hb hml hown hT hK hcal hrm (Nat.zero_le _) (Nat.zero_le _) hz hd hci hnx hjp q
        have hz := fun z1 z => hrn ⟨_, hmem, z1, z⟩
        split at h
        · split at h
          · rename_i pc2 lab2 cd off z1 z2 cs2
            obtain ⟨⟨g1, g2⟩, h0⟩ := am_if_of h
            subst g1
            obtain ⟨y, S1, rfl, h1⟩ := am_p1_of h0
            obtain ⟨x, S2, rfl, h2⟩ := am_p1_of h1
            have hmem2 := hcs _ (List.mem_cons_of_mem _ List.mem_cons_self)
            have hck2 := hchk _ hmem2
            unfold am_chk at hck2
            rw [Bool.and_eq_true, decide_eq_true_eq] at hck2
            obtain ⟨hd2, hci2⟩ := hck2
            simp only [am_chkI, decide_eq_true_eq, Bool.and_eq_true] at hci hci2
            subst hci
            obtain ⟨e2, ht⟩ := hci2
            rw [e2] at hd2
            have ja := ih false (((pc' + 1 : Nat) : Int) + off).toNat (am_drop (((pc' + 1 : Nat) : Int) + off).toNat full) L S2 σ (fun e he => am_drop_in e he)
            have jb := ih false (pc' + 1 + 3) cs2 L S2 σ (fun e he => hcs e (List.mem_cons_of_mem _ (List.mem_cons_of_mem _ he)))
            cases cd with
            | eq => exact am_lcmp_eq hx hb hd hd2 (am_tgt_of ht) (am_brm ja jb h2)
            | ne => exact am_lcmp_ne hx hb hd hd2 (am_tgt_of ht) (am_brm ja jb h2)
            | lt => exact am_lcmp_lt hx hb hd hd2 (am_tgt_of ht) (am_brm ja jb h2)
            | ge => exact am_lcmp_ge hx hb hd hd2 (am_tgt_of ht) (am_brm ja jb h2)
            | gt => exact am_lcmp_gt hx hb hd hd2 (am_tgt_of ht) (am_brm ja jb h2)
            | le => exact am_lcmp_le hx hb hd hd2 (am_tgt_of ht) (am_brm ja jb h2)
          · exact h.elim
        · unfold am_stepX at h
          unfold am_chkRX at hrmX
          rw [List.all_eq_true] at hrmX
          split at h
          · rename_i idx
            by_cases hin : am_inX calX r1 = true
            · rw [if_pos hin] at h
              rcases h with h | h
              · exact hst _ hd hci hz h
              · obtain ⟨a, ha, e1, xs, S', k1, rfl, k3, k4⟩ := am_callX_of h
                simp only [am_chkX, List.all_eq_true] at hckX
                have hc1 := hckX a ha
                simp only [Bool.or_eq_true, Bool.and_eq_true, decide_eq_true_eq] at hc1
                have hc2 := hc1.resolve_left (fun q => q e1)
                have hr1 := hrmX a ha
                rw [decide_eq_true_eq] at hr1
                simp only [am_chkI, decide_eq_true_eq, Bool.and_eq_true] at hci
                have hn3 := hci.1
                dsimp only at hd
                rw [hn3] at hd
                exact am_callSX hx hb hml hlk hne hown hT hK hS0 hw0 a (hcalX a ha) hc2.1 (am_in_tbl (am_wd_in hc2.2) rfl) k1 hr1.2.2.1 hr1.2.2.2 hr1.1 hr1.2.1 k3 hd k4
            · rw [if_neg hin] at h
              exact hst _ hd hci hz h
          · rename_i idx
            by_cases hin : am_inX calX r1 = true
            · rw [if_pos hin] at h
              rcases h with h | h
              · exact hst _ hd hci hz h
              · obtain ⟨a, ha, e1, xs, S', k1, rfl, k3, k4⟩ := am_callX_of h
                simp only [am_chkX] at hckX
                split at hckX
                · cases hckX
                · rename_i q hq
                  rw [List.all_eq_true] at hckX
                  have hc1 := hckX a ha
                  simp only [Bool.or_eq_true, Bool.and_eq_true, decide_eq_true_eq, Bool.not_eq_true'] at hc1
                  have hc2 := hc1.resolve_left (fun q => q e1)
                  have hr1 := hrmX a ha
                  rw [decide_eq_true_eq] at hr1
                  simp only [am_chkI, decide_eq_true_eq, Bool.and_eq_true] at hci
                  have hn3 := hci.1
                  dsimp only at hd
                  rw [hn3] at hd
                  match xs, k1, k4 with
                  | [], k1, k4 => exact k4.elim
                  | ob :: xs, k1, k4 =>
                    obtain ⟨k5, k6⟩ := am_if_of k4
                    exact am_callVX hx hb hml hlk hne hown hT hK hS0 hw0 a (hcalX a ha) hc2.1.1 (am_in_tbl (am_wd_in hc2.2) rfl) hq hc2.1.2 k5 k1 hr1.2.2.1 hr1.2.2.2 hr1.1 hr1.2.1 k3 hd k6
            · rw [if_neg hin] at h
              exact hst _ hd hci hz h
          · exact hst _ hd hci hz h
      · rw [if_neg hl] at h
        have hlz : lab ≠ 0 := fun q => hl (Or.inl q)
        have hlb := hlab _ hmem
        unfold am_chkL at hlb
        rw [Bool.or_eq_true, decide_eq_true_eq, decide_eq_true_eq] at hlb
        have hlb2 := hlb.resolve_left hlz
        split at h
        · exact h.elim
        · rename_i t ht
          dsimp only at hlb2
          rw [ht] at hlb2
          have e3 : t.1 = pc' := Option.some.inj hlb2
          obtain ⟨v, h1, h2⟩ := am_arr2_of h
          obtain ⟨L', g1, g2⟩ := h2 _ (hX _ v σ h1 t ht)
          rw [e3] at g1
          exact am_M_sub g1 g2
/-- THE METHOD THAT THROWS BY ITS BLOCKS -/
theorem am_soundX (k : Nat) (y : MethodName) (cc : ByteArray) (nL : Nat) (ret : Option FieldType) (tags : List Nat) (st : Bool) (rm : Room) (B : (Nat → List Int → AMem → Prop) → (Nat → AMem → Prop) → Nat → List Int → AMem → Prop) (own : String)
    (full : List aE) (tm : List aT) (fuel : Nat) (hms : am_MSp (am_toC (k, (y, cc, nL, ret), tags, st, rm, am_TX B))) (hpl : plainName y.cls = true) (ho : own = y.cls) (hcal : ∀ a ∈ cal, am_S l w G a) (hcalX : ∀ a ∈ calX, am_SX l w G a)
    (hst : (am_chkR rm cal && am_chkRX rm calX && am_chkN full rm && full.all (am_chk own cc nL ret cal) && full.all (am_chkX own calX) && full.all (am_chkL tm) && decide (tm[0]? = some (0, am_argp 0 tags, [])) && decide (am_argn tags ≤ nL)) = true)
    (hB : ∀ X E j v σ, B X E j v σ → am_atX G cal calX full tm X E fuel j v σ) : am_SX l w G (k, (y, cc, nL, ret), tags, st, rm, am_TX B) := by
  simp only [Bool.and_eq_true, decide_eq_true_eq] at hst
  obtain ⟨⟨⟨⟨⟨⟨⟨hrm, hrmX⟩, hrn⟩, hchk⟩, hchkX⟩, hlab⟩, h0⟩, hn⟩ := hst
  rw [List.all_eq_true] at hchk hlab hchkX
  refine ⟨hms, fun xs σ E hTm hlen => ?_⟩
  refine am_MT_ofW (cc := cc) (maxL := nL) (ret := ret) hpl rfl ?_
  intro p e s m args below meth c s₁ BB hml hv
  obtain ⟨rfl, hok, hrep, hK, hS0, hw0⟩ := hv
  have hx := BB.exec
  have hb := BB.bytes
  have hts := atoms_spec (ws := Cond.code y cc nL ret :: am_tbl) BB.pre
  have hT : ∀ q ∈ am_tbl, q.before (am_vals w.1 tags xs).toArray s = true := fun q hq => hts q (List.mem_cons_of_mem _ hq)
  have hown : s.vm.findClass own = some m.cls := by rw [ho]; exact findClass_of_methodNamed BB.named
  have hlk := BB.notSynchronized
  have hne := BB.noHandlers (hts _ List.mem_cons_self)
  have hrn' : (∃ e ∈ full, am_isS e.2.2.1 = true ∧ 9990 ≤ e.2.2.2.2.1) → 1 ≤ rm.frames ∧ 34 ≤ rm.locals := by
    rintro ⟨e, he, h8, h9⟩
    unfold am_chkN at hrn
    rw [Bool.or_eq_true] at hrn
    rcases hrn with h | h
    · rw [List.all_eq_true] at h
      have := h e he
      rw [h8, Bool.not_true, Bool.false_or, decide_eq_true_eq] at this
      omega
    · exact of_decide_eq_true h
  have key := hTm (fun j v σ' => ∀ t, tm[j]? = some t → am_mk t v (fun L S => am_M p l e rm s m (am_vals w.1 tags xs).toArray below meth c (am_QQ w G E below (am_vals w.1 tags xs).toArray s) w G 0 0 nL t.1 L S σ')) (fun j v σ' hBj t ht => by
    have h1 := hB _ _ _ _ _ hBj
    unfold am_atX at h1
    rw [ht] at h1
    exact am_mk_mono (fun L S q => am_blkX_ok (R := rm) hx hb hml hlk hne hown hT hK hS0 hw0 hcal hcalX hrm hrmX hrn' hchk hchkX hlab (fun j v σ h => h) fuel true t.1 _ L S σ' (fun e he => am_drop_in e he) q) h1) (0, am_argp 0 tags, []) h0
  obtain ⟨L, h1, h2, h3⟩ := am_arg_mk w.1 tags xs 0 _ hlen key
  have hl := lv_entry (am_vals w.1 tags xs) (n := nL) (by rw [am_argn_len w.1 tags xs hlen]; exact hn)
  rw [lg_entry_eq]
  exact h1 s.heap [] _ hrep (fun q hq => absurd hq List.not_mem_nil) (Nat.le_refl _) (fun q _ => rfl) (by rw [h2]; exact hl) (fun q hq => hok _ (h3 q hq)) (fun v hv => absurd hv List.not_mem_nil)
end AMZ
