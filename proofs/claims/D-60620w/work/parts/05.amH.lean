/-! THE ABSTRACT MACHINE, part 4: fields, arrays, copies -/
def am_good (q : Cond) : Bool := (q.onTables && q.keeps) || (match q with | .arrayClass _ => true | _ => false)
def am_tbl : List Cond := lw_tbl.filter am_good
theorem am_in_tbl {q : Cond} (h : q ∈ tables_1) (hg : am_good q = true) : q ∈ am_tbl := List.mem_filter.mpr ⟨List.mem_append_right _ h, hg⟩
theorem am_good_lay (C : String) (T : u_T) (k : Nat) : am_good (u_lay C T k) = true := by
  unfold u_lay; split <;> rfl
theorem am_cls_in : ∀ (ci : Nat) (q : vw_C), cls9[ci]? = some q → ∀ w ∈ u_ws q.1 q.2.1 q.2.2, w ∈ am_tbl := by
  have key : ∀ (C : String) (T : u_T) (N : Nat), (∀ w ∈ u_ws C T N, w ∈ tables_1) → ∀ w ∈ u_ws C T N, w ∈ am_tbl := by
    intro C T N h w hw
    have h1 := h w hw
    obtain ⟨k, -, rfl⟩ := List.mem_map.mp hw
    exact am_in_tbl h1 (am_good_lay C T k)
  intro ci q hq
  match ci, hq with
  | 0, hq => cases hq; exact key _ _ _ i_LinkHouse
  | 1, hq => cases hq; exact key _ _ _ i_Loader
  | 2, hq => cases hq; exact key _ _ _ i_Names
  | 3, hq => cases hq; exact key _ _ _ i_Name
  | 4, hq => cases hq; exact key _ _ _ i_Segment
  | 5, hq => cases hq; exact key _ _ _ i_Pool
  | 6, hq => cases hq; exact key _ _ _ i_Container
  | 7, hq => cases hq; exact key _ _ _ i_Part
  | 8, hq => cases hq; exact key _ _ _ i_Model
  | k + 9, hq => simp at hq
def am_clsOK (ci : Nat) (q : vw_C) : Bool := (List.range q.2.2).all (fun k => decide (parseFieldDescriptor (q.2.1 k).2.2.1 = some (am_ft ci k)) && decide ((q.2.1 k).1 = q.1)) && decide (((List.range q.2.2).map (fun k => (q.2.1 k).2.1)).Nodup)
theorem am_clsOK_all : ∀ ci, ci < 9 → am_clsOK ci (cls9.getD ci ("", F_Part, 0)) = true := by decide +kernel
theorem am_cls_of {ci : Nat} {q : vw_C} (h : cls9[ci]? = some q) : am_clsOK ci q = true := by
  have h1 : ci < 9 := (List.getElem?_eq_some_iff.mp h).1
  have h2 := am_clsOK_all ci h1
  rw [List.getD_eq_getElem?_getD, h] at h2
  exact h2
theorem am_cls_ty {ci : Nat} {q : vw_C} (h : cls9[ci]? = some q) {k : Nat} (hk : k < q.2.2) : parseFieldDescriptor (q.2.1 k).2.2.1 = some (am_ft ci k) ∧ (q.2.1 k).1 = q.1 := by
  have h2 := am_cls_of h
  unfold am_clsOK at h2
  rw [Bool.and_eq_true, List.all_eq_true] at h2
  have h3 := h2.1 k (List.mem_range.mpr hk)
  rw [Bool.and_eq_true, decide_eq_true_eq, decide_eq_true_eq] at h3
  exact h3
theorem am_cls_nm {ci : Nat} {q : vw_C} (h : cls9[ci]? = some q) : ∀ a, a < q.2.2 → ∀ b, b < q.2.2 → a ≠ b → (q.2.1 a).2.1 ≠ (q.2.1 b).2.1 := by
  have h2 := am_cls_of h
  unfold am_clsOK at h2
  rw [Bool.and_eq_true, decide_eq_true_eq] at h2
  intro a ha b hb hne e
  have h3 := h2.2
  have h4 := List.pairwise_iff_getElem.mp h3
  rcases Nat.lt_or_gt_of_ne hne with hl | hl
  · exact h4 a b (by simpa using ha) (by simpa using hb) hl (by simpa using e)
  · exact h4 b a (by simpa using hb) (by simpa using ha) hl (by simpa using e.symm)
theorem am_fit {t : FieldType} {b : Nat} {x : Int} (h : am_fok t x) : narrow t (am_val b (am_tag t, x)) = am_val b (am_tag t, x) ∧ fits t (am_val b (am_tag t, x)) = true := by
  cases t with
  | int => exact ⟨rfl, rfl⟩
  | long => exact ⟨rfl, rfl⟩
  | boolean => rcases h with rfl | rfl <;> exact ⟨rfl, rfl⟩
  | byte =>
    have h1 : am_r32 x := by unfold am_r32; unfold am_fok at h; omega
    refine ⟨?_, ?_⟩
    · show Value.int (Int32.ofInt x).toInt8.toInt32 = _
      rw [am_i2b]
      show _ = Value.int (Int32.ofInt x)
      congr 2
      unfold w8; unfold am_fok at h; rw [Int.bmod_def]; omega
    · show (decide (-128 ≤ Int32.ofInt x) && decide (Int32.ofInt x ≤ 127)) = true
      have e1 : (-128 : Int32) = Int32.ofInt (-128) := rfl
      have e2 : (127 : Int32) = Int32.ofInt 127 := rfl
      rw [e1, e2, Bool.and_eq_true, decide_eq_true_eq, decide_eq_true_eq, am_le32 (by unfold am_r32; omega) h1, am_le32 h1 (by unfold am_r32; omega)]
      exact h
  | object n =>
    by_cases h0 : x = 0
    · subst h0; exact ⟨rfl, rfl⟩
    · show narrow _ (am_val b (2, x)) = am_val b (2, x) ∧ fits _ (am_val b (2, x)) = true
      rw [am_val2 b h0]; exact ⟨rfl, rfl⟩
  | array n =>
    by_cases h0 : x = 0
    · subst h0; exact ⟨rfl, rfl⟩
    · show narrow _ (am_val b (2, x)) = am_val b (2, x) ∧ fits _ (am_val b (2, x)) = true
      rw [am_val2 b h0]; exact ⟨rfl, rfl⟩
  | char => exact h.elim
  | short => exact h.elim
  | float => exact h.elim
  | double => exact h.elim
def am_rd (G : AG) (σ : AMem) (a : Int) (k : Nat) : Int := if G.2.2 a k = 0 then σ a k else (G.2.2 a k : Nat)
theorem am_rep_to {w : AW} {G : AG} {σ σ' : AMem} {H H' : Heap} {a : Int} (hR : am_rep w G σ H) (h0 : G.1 a ≠ 0) (hσ : ∀ a', a' ≠ a → σ' a' = σ a') (oq : ∀ q, q ≠ am_adr w.1 a → H'[q]? = H[q]?)
    (hA : G.1 a < 20 → am_cellA w G σ' H' a) (hO : 20 ≤ G.1 a → am_cellO w G σ' H' a) : am_rep w G σ' H' := by
  intro a' h'
  have ha := (hR a h0).1
  obtain ⟨h1, h2, h3⟩ := hR a' h'
  by_cases e : a' = a
  · subst e; exact ⟨h1, hA, hO⟩
  · have e1 := oq (am_adr w.1 a') (fun q => e (am_adr_inj h1 ha q))
    refine ⟨h1, fun hk => ?_, fun hk => ?_⟩
    · obtain ⟨t, g1, g2, g2', g3, g4⟩ := h2 hk
      refine ⟨t, g1, g2, g2', ?_, ?_⟩
      · rw [e1, g3, hσ a' e]
      · rw [hσ a' e]; exact g4
    · obtain ⟨q, g1, g2, g3, g4⟩ := h3 hk
      refine ⟨q, g1, ?_, ?_, ?_⟩
      · rw [hσ a' e]; exact g2.kept e1
      · rw [hσ a' e]; exact g3
      · rw [hσ a' e]; exact g4
theorem am_upd_ne (σ : AMem) {a a' i v : Int} (h : a' ≠ a) : am_upd σ a i v a' = σ a' := by
  funext j; unfold am_upd; rw [if_neg h]
theorem am_upd_at (σ : AMem) (a i v j : Int) : am_upd σ a i v a j = if j = i then v else σ a j := by
  unfold am_upd; rw [if_pos rfl]
theorem am_ix {j n : Int} (h0 : 0 ≤ j) (h1 : j < n) (h2 : n ≤ 2147483647) : (Int32.ofInt j).toNatClampNeg = j.toNat ∧ ¬ (Int32.ofInt j < 0) := by
  have hr : am_r32 j := by unfold am_r32; omega
  refine ⟨?_, ?_⟩
  · show (Int32.ofInt j).toInt.toNat = j.toNat
    rw [am_t32 hr]
  · rw [show (0 : Int32) = Int32.ofInt 0 from rfl, am_lt32 hr (by unfold am_r32; omega)]; omega
theorem am_lt_adr {b q : Nat} {a : Int} (h : q < b) : q ≠ am_adr b a := by unfold am_adr; omega
theorem am_tys_at (ac : Nat → ClassId) {k : Nat} {t : FieldType} (h : am_ak[k]? = some t) : (am_tys ac)[k]? = some (ac (k + 1), t) := by
  have hk : k < 9 := (List.getElem?_eq_some_iff.mp h).1
  unfold am_tys
  rw [List.getElem?_map, List.getElem?_range hk]
  simp [List.getD_eq_getElem?_getD, h]
section AMH
variable {p : Program} {l : Launch} {e : Env} {R : Room} {s : State} {m : MethodId} {args : Array Value} {below : List Frame} {meth : Method} {c : Code} {QQ : State → Prop} {w : AW} {G : AG} {cells slots nL : Nat}
variable {cc : ByteArray} {pc : Nat} {L : List (Nat × AV)} {S : List AV} {σ : AMem}
def am_fl (own : String) (index : Nat) (q : vw_C) (k : Nat) (args : Array Value) (s : State) : Prop := (Cond.fieldLink own index q.1 (q.2.1 k).2.1 (q.2.1 k).2.2.1).before args s = true ∨ ∃ host, (Cond.fieldLinkNest own index q.1 (q.2.1 k).2.1 (q.2.1 k).2.2.1 host).before args s = true
theorem am_getf (hx : p.tables.exec = Jvm.exec) (hb : c.code = cc) {own : String} (hown : s.vm.findClass own = some m.cls) (hT : ∀ q ∈ am_tbl, q.before args s = true) (hK : am_K w s) {ci k index : Nat} {q : vw_C} {a : Int} (hq : cls9[ci]? = some q) (hk : k < q.2.2) (hl : am_fl own index q k args s) (hG : G.1 a = 20 + ci) (hd : decode cc pc = .ok (.getfield index, 3))
    (kk : am_M p l e R s m args below meth c QQ w G cells slots nL (pc + 3) L ((am_tag (am_ft ci k), am_rd G σ a k) :: S) σ) : am_M p l e R s m args below meth c QQ w G cells slots nL pc L ((2, a) :: S) σ := by
  intro H locs ls r1 r2 r3 r4 r5 r6 r7
  obtain ⟨ha1, -, hO⟩ := r1 a (by omega)
  obtain ⟨q', hq', hOB, hok, hfin⟩ := hO (by omega)
  have e1 : G.1 a - 20 = ci := by omega
  rw [e1] at hq' hOB hok
  cases hq.symm.trans hq'
  obtain ⟨cell, q1, q2, q3, q4⟩ := hOB
  obtain ⟨hS, hfc, kC, hkC, hkind⟩ := hK.1.1 ci q hq
  obtain ⟨cf, kf, fi, f, hi, hsl⟩ := hS k hk
  have hst := (u_facts hfc hkC (u_lays hT (am_cls_in ci q hq) hk) hi).1
  have hi2 : s.fieldFound? q.1 (q.2.1 k).2.1 (q.2.1 k).2.2.1 = some (cf, kf, fi, f) := by rw [← (am_cls_ty hq hk).2]; exact hi
  have hv : cell.slots[f.slot]? = some (am_val w.1 (am_tag (am_ft ci k), σ a k)) := by rw [hsl, q4 k hk]
  have e2 : am_rd G σ a k = σ a k := by
    unfold am_rd
    by_cases h0 : G.2.2 a k = 0
    · rw [if_pos h0]
    · rw [if_neg h0, hfin k h0]
  rw [e2] at kk
  have hw := kk H locs ls r1 r2 r3 r4 r5 r6 (am_ok2 (am_fok_ok (hok k hk)) (am_tl r7))
  rw [List.map_cons, am_val2 _ (by omega)]
  rcases hl with hl | ⟨host, hl⟩
  · exact W.getf hx hb hown hl hi2 hst q1 (by rw [q3]; exact fun h => by cases h) hv rfl rfl hd hw
  · exact va_Wgetf hx hb hown hl hi2 hst q1 (by rw [q3]; exact fun h => by cases h) hv rfl rfl hd hw
theorem am_putf (hx : p.tables.exec = Jvm.exec) (hb : c.code = cc) {own : String} (hown : s.vm.findClass own = some m.cls) (hT : ∀ q ∈ am_tbl, q.before args s = true) (hK : am_K w s) {ci k index t : Nat} {q : vw_C} {a x : Int} (hq : cls9[ci]? = some q) (hk : k < q.2.2) (hnf : (q.2.1 k).2.2.2 = false) (hl : am_fl own index q k args s) (hG : G.1 a = 20 + ci) (hf : G.2.2 a k = 0) (ht : t = am_tag (am_ft ci k)) (hv : am_fok (am_ft ci k) x) (hd : decode cc pc = .ok (.putfield index, 3))
    (kk : am_M p l e R s m args below meth c QQ w G cells slots nL (pc + 3) L S (am_upd σ a k x)) : am_M p l e R s m args below meth c QQ w G cells slots nL pc L ((t, x) :: (2, a) :: S) σ := by
  subst ht
  intro H locs ls r1 r2 r3 r4 r5 r6 r7
  obtain ⟨ha1, -, hO⟩ := r1 a (by omega)
  obtain ⟨q', hq', hOB, hok, hfin⟩ := hO (by omega)
  have e1 : G.1 a - 20 = ci := by omega
  rw [e1] at hq' hOB hok
  cases hq.symm.trans hq'
  obtain ⟨cell, q1, q2, q3, q4⟩ := hOB
  have hKc := hK.1.1 ci q hq
  obtain ⟨hS, hfc, kC, hkC, hkind⟩ := id hKc
  obtain ⟨cf, kf, fi, f, hi, hsl⟩ := hS k hk
  have hlay := hT _ (am_cls_in ci q hq _ (u_in_lay hk))
  unfold u_lay at hlay
  rw [if_neg (by rw [hnf]; decide)] at hlay
  have hst := (u_facts hfc hkC (u_lays hT (am_cls_in ci q hq) hk) hi).1
  have hi2 : s.fieldFound? q.1 (q.2.1 k).2.1 (q.2.1 k).2.2.1 = some (cf, kf, fi, f) := by rw [← (am_cls_ty hq hk).2]; exact hi
  have h6 := u_store hfc hkC hkind hlay hi (am_cls_ty hq hk).1 (am_fit (b := w.1) hv).1 (am_fit (b := w.1) hv).2
  have hap := va_apart (own := own) hT (am_cls_in ci q hq) (am_ft ci) (fun k hk => (am_cls_ty hq hk).1) (am_cls_nm hq) hK.1 hq
  rw [List.map_cons, List.map_cons, am_val2 _ (show a ≠ 0 by omega)]
  have fin : ∀ H' : Heap, H'[am_adr w.1 a]? = some (cell.setSlot f.slot (am_val w.1 (am_tag (am_ft ci k), x))) → H'.size = H.size → (∀ q, q ≠ am_adr w.1 a → H'[q]? = H[q]?) → W p l e R s m args below meth c H' (locs ++ [⟨am_adr w.1 a, f.slot⟩]) cells slots QQ (F0 m (pc + 3) ls (S.map (am_val w.1))) := by
    intro H' g1 g2 g3
    refine kk H' _ ls ?_ ?_ (by rw [g2]; exact r3) (fun z hz => ?_) r5 r6 (am_tl (am_tl r7))
    · refine am_rep_to r1 (by omega) (fun a' h => am_upd_ne σ h) g3 (fun h => by omega) (fun _ => ?_)
      refine ⟨q, by rw [e1]; exact hq, ?_, ?_, ?_⟩
      · rw [e1]
        rw [hsl] at g1
        refine t_OB.to (V := updV (fun j => am_val w.1 (am_tag (am_ft ci j), σ a j)) k (am_val w.1 (am_tag (am_ft ci k), x))) ⟨_, g1, q2, q3, t_set q4 hap hk _⟩ (fun j _ => ?_)
        unfold updV
        rw [am_upd_at]
        by_cases hj : j = k
        · subst hj; simp
        · rw [if_neg hj, if_neg (by omega)]
      · intro j hj
        rw [e1, am_upd_at]
        by_cases hjk : j = k
        · subst hjk; rw [if_pos rfl]; exact hv
        · rw [if_neg (by omega)]; exact hok j hj
      · intro j hj
        rw [am_upd_at, if_neg (fun h => hj (by rw [show j = k by omega]; exact hf))]
        exact hfin j hj
    · intro z hz
      rcases List.mem_append.mp hz with hz | hz
      · exact r2 z hz
      · rw [List.mem_singleton.mp hz]; show w.1 ≤ am_adr w.1 a; unfold am_adr; omega
    · rw [g3 z (am_lt_adr hz)]; exact r4 z hz
  rcases hl with hl | ⟨host, hl⟩
  · exact W.putK hx hb (f := f) ⟨hown, hl, ⟨_, _, _, hi2⟩, hst⟩ (by rw [q2]; exact h6) q1 q3 (by rw [hsl]; exact k2_hasslot (q4 k hk)) rfl rfl hd fin
  · exact va_WputK hx hb (f := f) hown hl hi2 hst (by rw [q2]; exact h6) q1 q3 (by rw [hsl]; exact k2_hasslot (q4 k hk)) rfl rfl hd fin
/-- what a load or a store of an array finds -/
theorem am_arr {H : Heap} (hK : am_K w s) (hR : am_rep w G σ H) {a : Int} {t : FieldType} {kd : Nat} (hG : G.1 a = kd) (h1 : 1 ≤ kd) (ht : am_ak[kd - 1]? = some t) : 1 ≤ a ∧ 0 ≤ G.2.1 a ∧ G.2.1 a ≤ 2147483647 ∧ H[am_adr w.1 a]? = some (arrV (w.2.2 kd) (G.2.1 a).toNat (fun j => am_val w.1 (am_tag t, σ a j))) ∧ (∀ j : Int, 0 ≤ j → j < G.2.1 a → am_fok t (σ a j)) ∧ s.isArrayOf (arrV (w.2.2 kd) (G.2.1 a).toNat (fun j => am_val w.1 (am_tag t, σ a j))) t := by
  have hlt : kd - 1 < 9 := (List.getElem?_eq_some_iff.mp ht).1
  obtain ⟨ha1, hA, -⟩ := hR a (by omega)
  obtain ⟨t', g1, g2, g2', g3, g4⟩ := hA (by omega)
  rw [hG] at g1 g3
  cases ht.symm.trans g1
  have h5 := hK.1.2 (kd - 1) _ (am_tys_at w.2.2 ht)
  rw [show kd - 1 + 1 = kd by omega] at h5
  exact ⟨ha1, g2, g2', g3, g4, h5.1 _ _⟩
theorem am_st_arr {H H' : Heap} {t : FieldType} {kd : Nat} {a j x : Int} (hR : am_rep w G σ H) (hG : G.1 a = kd) (h1 : 1 ≤ kd) (hlt : kd < 20) (ht : am_ak[kd - 1]? = some t) (h0 : 0 ≤ j) (hj : j < G.2.1 a) (hx : am_fok t x)
    (g1 : H'[am_adr w.1 a]? = some ((arrV (w.2.2 kd) (G.2.1 a).toNat (fun j => am_val w.1 (am_tag t, σ a j))).setSlot j.toNat (am_val w.1 (am_tag t, x)))) (g3 : ∀ q, q ≠ am_adr w.1 a → H'[q]? = H[q]?) : am_rep w G (am_upd σ a j x) H' := by
  refine am_rep_to hR (by omega) (fun a' h => am_upd_ne σ h) g3 (fun _ => ?_) (fun h => by omega)
  obtain ⟨-, hA, -⟩ := hR a (by omega)
  obtain ⟨t', q1, q2, q2', q3, q4⟩ := hA (by omega)
  have htt : t' = t := by rw [hG] at q1; exact Option.some.inj (q1.symm.trans ht)
  subst htt
  refine ⟨t', q1, q2, q2', ?_, ?_⟩
  · rw [g1, arrV_store, hG]
    congr 2
    funext i
    unfold updV
    rw [am_upd_at]
    by_cases hi : i = j.toNat
    · rw [if_pos hi, if_pos (by omega)]
    · rw [if_neg hi, if_neg (by omega)]
  · intro i hi1 hi2
    rw [am_upd_at]
    by_cases hi : i = j
    · rw [if_pos hi]; exact hx
    · rw [if_neg hi]; exact q4 i hi1 hi2
theorem am_iaload1 (hx : p.tables.exec = Jvm.exec) (hb : c.code = cc) (hK : am_K w s) {a j : Int} (hG : G.1 a = 1) (h0 : 0 ≤ j) (h1 : j < G.2.1 a) (hd : decode cc pc = .ok (.iaload, 1)) (kk : am_M p l e R s m args below meth c QQ w G cells slots nL (pc + 1) L ((0, σ a j) :: S) σ) : am_M p l e R s m args below meth c QQ w G cells slots nL pc L ((0, j) :: (2, a) :: S) σ := by
  intro H locs ls r1 r2 r3 r4 r5 r6 r7
  obtain ⟨ha, g1, g2, g3, g4, g5⟩ := am_arr (t := .int) hK r1 hG (by omega) rfl
  obtain ⟨i1, i2⟩ := am_ix h0 h1 g2
  have hw := kk H locs ls r1 r2 r3 r4 r5 r6 (am_ok2 (am_fok_ok (g4 j h0 h1)) (am_tl (am_tl r7)))
  rw [List.map_cons, List.map_cons, am_val2 _ (show a ≠ 0 by omega)]
  refine W.iald hx hb g3 g5 (fun q => by cases q) (by rw [arrV_size, i1]; exact fun q => q.elim i2 (by omega)) (v := am_val w.1 (0, σ a j)) ?_ rfl rfl hd hw
  rw [i1, arrV_read _ _ (by omega), Int.toNat_of_nonneg h0]
  rfl
theorem am_baload2 (hx : p.tables.exec = Jvm.exec) (hb : c.code = cc) (hK : am_K w s) {a j : Int} (hG : G.1 a = 2) (h0 : 0 ≤ j) (h1 : j < G.2.1 a) (hd : decode cc pc = .ok (.baload, 1)) (kk : am_M p l e R s m args below meth c QQ w G cells slots nL (pc + 1) L ((0, σ a j) :: S) σ) : am_M p l e R s m args below meth c QQ w G cells slots nL pc L ((0, j) :: (2, a) :: S) σ := by
  intro H locs ls r1 r2 r3 r4 r5 r6 r7
  obtain ⟨ha, g1, g2, g3, g4, g5⟩ := am_arr (t := .byte) hK r1 hG (by omega) rfl
  obtain ⟨i1, i2⟩ := am_ix h0 h1 g2
  have hw := kk H locs ls r1 r2 r3 r4 r5 r6 (am_ok2 (am_fok_ok (g4 j h0 h1)) (am_tl (am_tl r7)))
  rw [List.map_cons, List.map_cons, am_val2 _ (show a ≠ 0 by omega)]
  refine W.bald hx hb g3 g5 (fun q => by cases q) (by rw [arrV_size, i1]; exact fun q => q.elim i2 (by omega)) (v := am_val w.1 (0, σ a j)) ?_ rfl rfl hd hw
  rw [i1, arrV_read _ _ (by omega), Int.toNat_of_nonneg h0]
  rfl
theorem am_baload3 (hx : p.tables.exec = Jvm.exec) (hb : c.code = cc) (hK : am_K w s) {a j : Int} (hG : G.1 a = 3) (h0 : 0 ≤ j) (h1 : j < G.2.1 a) (hd : decode cc pc = .ok (.baload, 1)) (kk : am_M p l e R s m args below meth c QQ w G cells slots nL (pc + 1) L ((0, σ a j) :: S) σ) : am_M p l e R s m args below meth c QQ w G cells slots nL pc L ((0, j) :: (2, a) :: S) σ := by
  intro H locs ls r1 r2 r3 r4 r5 r6 r7
  obtain ⟨ha, g1, g2, g3, g4, g5⟩ := am_arr (t := .boolean) hK r1 hG (by omega) rfl
  obtain ⟨i1, i2⟩ := am_ix h0 h1 g2
  have hw := kk H locs ls r1 r2 r3 r4 r5 r6 (am_ok2 (am_fok_ok (g4 j h0 h1)) (am_tl (am_tl r7)))
  rw [List.map_cons, List.map_cons, am_val2 _ (show a ≠ 0 by omega)]
  refine W.zald hx hb g3 g5 (fun q => by cases q) (by rw [arrV_size, i1]; exact fun q => q.elim i2 (by omega)) (v := am_val w.1 (0, σ a j)) ?_ rfl rfl hd hw
  rw [i1, arrV_read _ _ (by omega), Int.toNat_of_nonneg h0]
  rfl
theorem am_laload4 (hx : p.tables.exec = Jvm.exec) (hb : c.code = cc) (hK : am_K w s) {a j : Int} (hG : G.1 a = 4) (h0 : 0 ≤ j) (h1 : j < G.2.1 a) (hd : decode cc pc = .ok (.laload, 1)) (kk : am_M p l e R s m args below meth c QQ w G cells slots nL (pc + 1) L ((1, σ a j) :: S) σ) : am_M p l e R s m args below meth c QQ w G cells slots nL pc L ((0, j) :: (2, a) :: S) σ := by
  intro H locs ls r1 r2 r3 r4 r5 r6 r7
  obtain ⟨ha, g1, g2, g3, g4, g5⟩ := am_arr (t := .long) hK r1 hG (by omega) rfl
  obtain ⟨i1, i2⟩ := am_ix h0 h1 g2
  have hw := kk H locs ls r1 r2 r3 r4 r5 r6 (am_ok2 (am_fok_ok (g4 j h0 h1)) (am_tl (am_tl r7)))
  rw [List.map_cons, List.map_cons, am_val2 _ (show a ≠ 0 by omega)]
  refine W.lald hx hb g3 g5 (fun q => by cases q) (by rw [arrV_size, i1]; exact fun q => q.elim i2 (by omega)) (v := am_val w.1 (1, σ a j)) ?_ rfl rfl hd hw
  rw [i1, arrV_read _ _ (by omega), Int.toNat_of_nonneg h0]
  rfl
theorem am_aaload (hx : p.tables.exec = Jvm.exec) (hb : c.code = cc) (hK : am_K w s) {a j : Int} {kd : Nat} {t : FieldType} (ht : am_ak[kd - 1]? = some t) (htr : t.isReference = true) (htg : am_tag t = 2) (h1k : 1 ≤ kd) (hG : G.1 a = kd) (h0 : 0 ≤ j) (h1 : j < G.2.1 a) (hd : decode cc pc = .ok (.aaload, 1)) (kk : am_M p l e R s m args below meth c QQ w G cells slots nL (pc + 1) L ((2, σ a j) :: S) σ) : am_M p l e R s m args below meth c QQ w G cells slots nL pc L ((0, j) :: (2, a) :: S) σ := by
  intro H locs ls r1 r2 r3 r4 r5 r6 r7
  obtain ⟨ha, g1, g2, g3, g4, g5⟩ := am_arr hK r1 hG h1k ht
  obtain ⟨i1, i2⟩ := am_ix h0 h1 g2
  have hok := am_fok_ok (g4 j h0 h1)
  rw [htg] at hok g3 g5
  have hw := kk H locs ls r1 r2 r3 r4 r5 r6 (am_ok2 hok (am_tl (am_tl r7)))
  rw [List.map_cons, List.map_cons, am_val2 _ (show a ≠ 0 by omega)]
  refine W.aald hx hb g3 g5 htr (fun q => by cases q) (by rw [arrV_size, i1]; exact fun q => q.elim i2 (by omega)) (v := am_val w.1 (2, σ a j)) ?_ rfl rfl hd hw
  rw [i1, arrV_read _ _ (by omega), Int.toNat_of_nonneg h0]
theorem am_iastore1 (hx : p.tables.exec = Jvm.exec) (hb : c.code = cc) (hK : am_K w s) {a j x : Int} (hG : G.1 a = 1) (h0 : 0 ≤ j) (h1 : j < G.2.1 a) (hd : decode cc pc = .ok (.iastore, 1)) (kk : am_M p l e R s m args below meth c QQ w G cells slots nL (pc + 1) L S (am_upd σ a j x)) : am_M p l e R s m args below meth c QQ w G cells slots nL pc L ((0, x) :: (0, j) :: (2, a) :: S) σ := by
  intro H locs ls r1 r2 r3 r4 r5 r6 r7
  obtain ⟨ha, g1, g2, g3, g4, g5⟩ := am_arr (t := .int) hK r1 hG (by omega) rfl
  obtain ⟨i1, i2⟩ := am_ix h0 h1 g2
  rw [List.map_cons, List.map_cons, List.map_cons, am_val2 _ (show a ≠ 0 by omega)]
  refine W.iast hx hb g3 g5 (fun q => by cases q) (by rw [arrV_size, i1]; exact fun q => q.elim i2 (by omega)) rfl rfl hd fun H' e1 e2 e3 => ?_
  refine kk H' _ ls (am_st_arr r1 hG (by omega) (by omega) rfl h0 h1 (am_hd r7 : am_r32 x) (by rw [e1, i1]; try rfl) e3) ?_ (by rw [e2]; exact r3) (fun z hz => ?_) r5 r6 (am_tl (am_tl (am_tl r7)))
  · intro z hz
    rcases List.mem_append.mp hz with hz | hz
    · exact r2 z hz
    · rw [List.mem_singleton.mp hz]; show w.1 ≤ am_adr w.1 a; unfold am_adr; omega
  · rw [e3 z (am_lt_adr hz)]; exact r4 z hz
theorem am_lastore4 (hx : p.tables.exec = Jvm.exec) (hb : c.code = cc) (hK : am_K w s) {a j x : Int} (hG : G.1 a = 4) (h0 : 0 ≤ j) (h1 : j < G.2.1 a) (hd : decode cc pc = .ok (.lastore, 1)) (kk : am_M p l e R s m args below meth c QQ w G cells slots nL (pc + 1) L S (am_upd σ a j x)) : am_M p l e R s m args below meth c QQ w G cells slots nL pc L ((1, x) :: (0, j) :: (2, a) :: S) σ := by
  intro H locs ls r1 r2 r3 r4 r5 r6 r7
  obtain ⟨ha, g1, g2, g3, g4, g5⟩ := am_arr (t := .long) hK r1 hG (by omega) rfl
  obtain ⟨i1, i2⟩ := am_ix h0 h1 g2
  rw [List.map_cons, List.map_cons, List.map_cons, am_val2 _ (show a ≠ 0 by omega)]
  refine W.last hx hb g3 g5 (fun q => by cases q) (by rw [arrV_size, i1]; exact fun q => q.elim i2 (by omega)) rfl rfl hd fun H' e1 e2 e3 => ?_
  refine kk H' _ ls (am_st_arr r1 hG (by omega) (by omega) rfl h0 h1 (am_hd r7 : am_r64 x) (by rw [e1, i1]; try rfl) e3) ?_ (by rw [e2]; exact r3) (fun z hz => ?_) r5 r6 (am_tl (am_tl (am_tl r7)))
  · intro z hz
    rcases List.mem_append.mp hz with hz | hz
    · exact r2 z hz
    · rw [List.mem_singleton.mp hz]; show w.1 ≤ am_adr w.1 a; unfold am_adr; omega
  · rw [e3 z (am_lt_adr hz)]; exact r4 z hz
theorem am_bastore2 (hx : p.tables.exec = Jvm.exec) (hb : c.code = cc) (hK : am_K w s) {a j x : Int} (hG : G.1 a = 2) (h0 : 0 ≤ j) (h1 : j < G.2.1 a) (hd : decode cc pc = .ok (.bastore, 1)) (kk : am_M p l e R s m args below meth c QQ w G cells slots nL (pc + 1) L S (am_upd σ a j (w8 x))) : am_M p l e R s m args below meth c QQ w G cells slots nL pc L ((0, x) :: (0, j) :: (2, a) :: S) σ := by
  intro H locs ls r1 r2 r3 r4 r5 r6 r7
  obtain ⟨ha, g1, g2, g3, g4, g5⟩ := am_arr (t := .byte) hK r1 hG (by omega) rfl
  obtain ⟨i1, i2⟩ := am_ix h0 h1 g2
  rw [List.map_cons, List.map_cons, List.map_cons, am_val2 _ (show a ≠ 0 by omega)]
  refine W.bast hx hb g3 g5 (fun q => by cases q) (by rw [arrV_size, i1]; exact fun q => q.elim i2 (by omega)) rfl rfl hd fun H' e1 e2 e3 => ?_
  rw [show narrow .byte (.int (Int32.ofInt x)) = am_val w.1 (am_tag .byte, w8 x) from congrArg Value.int (am_i2b x)] at e1
  refine kk H' _ ls (am_st_arr r1 hG (by omega) (by omega) rfl h0 h1 (am_rw8 x) (by rw [e1, i1]; try rfl) e3) ?_ (by rw [e2]; exact r3) (fun z hz => ?_) r5 r6 (am_tl (am_tl (am_tl r7)))
  · intro z hz
    rcases List.mem_append.mp hz with hz | hz
    · exact r2 z hz
    · rw [List.mem_singleton.mp hz]; show w.1 ≤ am_adr w.1 a; unfold am_adr; omega
  · rw [e3 z (am_lt_adr hz)]; exact r4 z hz
theorem am_bastore3 (hx : p.tables.exec = Jvm.exec) (hb : c.code = cc) (hK : am_K w s) {a j x : Int} (hz01 : x = 0 ∨ x = 1) (hG : G.1 a = 3) (h0 : 0 ≤ j) (h1 : j < G.2.1 a) (hd : decode cc pc = .ok (.bastore, 1)) (kk : am_M p l e R s m args below meth c QQ w G cells slots nL (pc + 1) L S (am_upd σ a j x)) : am_M p l e R s m args below meth c QQ w G cells slots nL pc L ((0, x) :: (0, j) :: (2, a) :: S) σ := by
  intro H locs ls r1 r2 r3 r4 r5 r6 r7
  obtain ⟨ha, g1, g2, g3, g4, g5⟩ := am_arr (t := .boolean) hK r1 hG (by omega) rfl
  obtain ⟨i1, i2⟩ := am_ix h0 h1 g2
  rw [List.map_cons, List.map_cons, List.map_cons, am_val2 _ (show a ≠ 0 by omega)]
  refine W.zast hx hb g3 g5 (fun q => by cases q) (by rw [arrV_size, i1]; exact fun q => q.elim i2 (by omega)) rfl rfl hd fun H' e1 e2 e3 => ?_
  rw [show narrow .boolean (.int (Int32.ofInt x)) = am_val w.1 (am_tag .boolean, x) by rcases hz01 with rfl | rfl <;> rfl] at e1
  refine kk H' _ ls (am_st_arr r1 hG (by omega) (by omega) rfl h0 h1 hz01 (by rw [e1, i1]; try rfl) e3) ?_ (by rw [e2]; exact r3) (fun z hz => ?_) r5 r6 (am_tl (am_tl (am_tl r7)))
  · intro z hz
    rcases List.mem_append.mp hz with hz | hz
    · exact r2 z hz
    · rw [List.mem_singleton.mp hz]; show w.1 ≤ am_adr w.1 a; unfold am_adr; omega
  · rw [e3 z (am_lt_adr hz)]; exact r4 z hz
theorem am_aastore (hx : p.tables.exec = Jvm.exec) (hb : c.code = cc) (hK : am_K w s) {a j x : Int} {kd ci : Nat} {q : vw_C} (hq : cls9[ci]? = some q) (ht : am_ak[kd - 1]? = some (.object q.1)) (h1k : 1 ≤ kd) (hk20 : kd < 20) (hG : G.1 a = kd) (h0 : 0 ≤ j) (h1 : j < G.2.1 a) (hv : x = 0 ∨ G.1 x = 20 + ci) (hd : decode cc pc = .ok (.aastore, 1)) (kk : am_M p l e R s m args below meth c QQ w G cells slots nL (pc + 1) L S (am_upd σ a j x)) : am_M p l e R s m args below meth c QQ w G cells slots nL pc L ((2, x) :: (0, j) :: (2, a) :: S) σ := by
  intro H locs ls r1 r2 r3 r4 r5 r6 r7
  obtain ⟨ha, g1, g2, g3, g4, g5⟩ := am_arr hK r1 hG h1k ht
  obtain ⟨i1, i2⟩ := am_ix h0 h1 g2
  rw [List.map_cons, List.map_cons, List.map_cons, am_val2 _ (show a ≠ 0 by omega)]
  have ox : 0 ≤ x := am_hd r7
  have fin : ∀ H' : Heap, H'[am_adr w.1 a]? = some ((arrV (w.2.2 kd) (G.2.1 a).toNat (fun j => am_val w.1 (am_tag (.object q.1), σ a j))).setSlot (Int32.ofInt j).toNatClampNeg (am_val w.1 (2, x))) → H'.size = H.size → (∀ z, z ≠ am_adr w.1 a → H'[z]? = H[z]?) → W p l e R s m args below meth c H' (locs ++ [⟨am_adr w.1 a, (Int32.ofInt j).toNatClampNeg⟩]) cells slots QQ (F0 m (pc + 1) ls (S.map (am_val w.1))) := by
    intro H' e1 e2 e3
    rw [i1] at e1
    refine kk H' _ ls (am_st_arr r1 hG h1k hk20 ht h0 h1 (show am_fok (.object q.1) x from ox) e1 e3) ?_ (by rw [e2]; exact r3) (fun z hz => ?_) r5 r6 (am_tl (am_tl (am_tl r7)))
    · intro z hz
      rcases List.mem_append.mp hz with hz | hz
      · exact r2 z hz
      · rw [List.mem_singleton.mp hz]; show w.1 ≤ am_adr w.1 a; unfold am_adr; omega
    · rw [e3 z (am_lt_adr hz)]; exact r4 z hz
  by_cases hx0 : x = 0
  · subst hx0
    exact va_WaastN (C := q.1) hx hb g3 g5 (fun q => by cases q) (by rw [arrV_size, i1]; exact fun q => q.elim i2 (by omega)) rfl rfl hd fin
  · have hxk : G.1 x = 20 + ci := hv.resolve_left hx0
    obtain ⟨hx1, -, hO⟩ := r1 x (by omega)
    obtain ⟨q', hq', hOB, -⟩ := hO (by omega)
    have e1 : G.1 x - 20 = ci := by omega
    rw [e1] at hq' hOB
    obtain ⟨cellV, f1, f2, f3, -⟩ := hOB
    rw [am_val2 _ hx0] at fin ⊢
    have hcls := (hK.1.1 ci q hq).2
    have h5 := hK.1.2 (kd - 1) _ (am_tys_at w.2.2 ht)
    rw [show kd - 1 + 1 = kd by omega] at h5
    obtain ⟨kA, comp, k1, k2, k3, -⟩ := h5.2
    have hcomp : comp = w.2.1.1 ci := Option.some.inj (k3.symm.trans hcls.1)
    obtain ⟨-, kC, hkC, hkind⟩ := id hcls
    refine W.aast hx hb g3 (fun q h => by cases h) (fun q => by cases q) k1 k2 rfl (by rw [hcomp]; exact hkC) ⟨i2, by rw [arrV_size, i1]; omega⟩ f1 (fun q h => by rw [f3] at h; cases h) (by rw [f2]; exact hkC) (by rw [f2, hcomp]; exact va_assign hcls) rfl rfl hd fin
theorem am_alen (hx : p.tables.exec = Jvm.exec) (hb : c.code = cc) (hK : am_K w s) {a : Int} {kd : Nat} {t : FieldType} (ht : am_ak[kd - 1]? = some t) (h1k : 1 ≤ kd) (hG : G.1 a = kd) (hd : decode cc pc = .ok (.arraylength, 1)) (kk : am_M p l e R s m args below meth c QQ w G cells slots nL (pc + 1) L ((0, G.2.1 a) :: S) σ) : am_M p l e R s m args below meth c QQ w G cells slots nL pc L ((2, a) :: S) σ := by
  intro H locs ls r1 r2 r3 r4 r5 r6 r7
  obtain ⟨ha, g1, g2, g3, g4, g5⟩ := am_arr hK r1 hG h1k ht
  have hw := kk H locs ls r1 r2 r3 r4 r5 r6 (am_ok2 (show am_r32 (G.2.1 a) by unfold am_r32; omega) (am_tl r7))
  rw [List.map_cons, am_val2 _ (show a ≠ 0 by omega)]
  refine W.alen hx hb g3 g5 ?_ rfl rfl hd hw
  rw [arrV_size]
  show Int32.ofNat _ = Int32.ofInt _
  have e := nI_toInt (n := (G.2.1 a).toNat) (by omega)
  unfold nI at e
  rw [← Int32.toInt_inj, e, am_t32 (by unfold am_r32; omega)]
  omega
end AMH
