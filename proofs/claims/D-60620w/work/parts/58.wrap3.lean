/-! CATCHING, part 3: a method with one try, by its instructions -/
section AMK2
variable {p : Program} {l : Launch} {e : Env} {R : Room} {s : State} {m : MethodId} {args : Array Value} {below : List Frame} {meth : Method} {c : Code} {w : AW} {G : AG} {nL : Nat} {QQ : State → Prop}
variable {cc : ByteArray} {pc : Nat} {L : List (Nat × AV)} {S : List AV} {σ : AMem} {own : String} {cal : List AC} {calX : List AX}
theorem am_weak (h : am_M p l e R s m args below meth c QQ w G 1 6 nL pc L S σ) : am_M p l e R s m args below meth c QQ w G 0 0 nL pc L S σ := by
  intro H locs ls r1 r2 r3 r4 r5 r6 r7 T hT X
  obtain ⟨h1, h2, h3, h4, h5, h6⟩ := X.same
  exact h H locs ls r1 r2 r3 r4 r5 r6 r7 T hT { X with same := ⟨h1, h2, Nat.le_trans h3 (by omega), h4, Nat.le_trans h5 (by omega), h6⟩ }
def am_blkC (G : AG) (cal : List AC) (calX : List AX) (full : List aE) (hp : Nat → Option Nat) (Q : Int → AMem → Prop) : Nat → Bool → Nat → List aE → List (Nat × AV) → List AV → AMem → Prop
  | 0, _, _, _, _, _, _ => False
  | f + 1, ph, pc, cs, L, S, σ => match cs with
    | [] => False
    | (pc', _, i, n, r1, r2, r3) :: cs' => if pc' = pc then
        (match i with
        | .ireturn => (match S with | [(0, v)] => Q v σ | _ => False)
        | .invokevirtual idx => if ph = false ∧ am_inX calX r1 = true then
            (am_step G cal (fun _ _ => False) (fun L S σ => am_blkC G cal calX full hp Q f ph (pc + n) cs' L S σ) (fun off L S σ => am_blkC G cal calX full hp Q f ph ((pc : Int) + off).toNat (am_drop ((pc : Int) + off).toNat full) L S σ) (.invokevirtual idx) r1 r2 r3 L S σ ∨
             ∃ E : Nat → AMem → Prop, am_callX calX r1 (am_recv G (20 + r2)) S σ E ∧ ∀ k σ', E k σ' → ∃ h, hp k = some h ∧ ∀ a' : Int, 1 ≤ a' → am_blkC G cal calX full hp Q f true h (am_drop h full) L [(2, a')] σ')
          else False
        | i => am_step G cal (fun _ _ => False) (fun L S σ => am_blkC G cal calX full hp Q f ph (pc + n) cs' L S σ) (fun off L S σ => am_blkC G cal calX full hp Q f ph ((pc : Int) + off).toNat (am_drop ((pc : Int) + off).toNat full) L S σ) i r1 r2 r3 L S σ) else False
theorem am_blkC_ok {hp : Nat → Option Nat} {Q : Int → AMem → Prop} {full : List aE} (hx : p.tables.exec = Jvm.exec) (hb : c.code = cc) (hml : c.maxLocals = nL) (hlk : meth.locks = false) (hr : meth.sig.returnType = some .int) (hown : s.vm.findClass own = some m.cls) (hT : ∀ q ∈ am_tbl, q.before args s = true) (hK : am_K w s) (hS0 : am_St w s s.heap) (hw0 : w.1 ≤ s.heap.size) (hcal : ∀ a ∈ cal, am_S l w G a) (hcalX : ∀ a ∈ calX, am_SX l w G a) (hrm : am_chkR R cal = true) (hrmX : am_chkRX R calX = true) (hrc : 1 ≤ R.cells) (hrs : 6 ≤ R.slots)
    (hS : ∀ e ∈ full, am_isS e.2.2.1 = false) (hchk : ∀ e ∈ full, am_chk own cc nL (some .int) cal e = true) (hchkX : ∀ e ∈ full, am_chkX own calX e = true)
    (hhnd : ∀ e' ∈ full, (∃ idx, e'.2.2.1 = .invokevirtual idx) → ∀ k tc h, s.vm.findClass (am_exN k) = some tc → hp k = some h → am_hnd e s m.cls e'.1 tc c.exceptionTable.toList h ∧ ∃ kk, s.vm.classes[tc]? = some kk) :
    ∀ f ph pc cs L S σ, (∀ e ∈ cs, e ∈ full) → am_blkC G cal calX full hp Q f ph pc cs L S σ → am_M p l e R s m args below meth c (MQ below (am_Qc w G 0 Q) args s 1 6 (fun q => w.1 ≤ q)) w G (if ph = true then 1 else 0) (if ph = true then 6 else 0) nL pc L S σ := by
  intro f
  induction f with
  | zero => intro ph pc cs L S σ _ h; exact h.elim
  | succ f ih =>
    intro ph pc cs L S σ hcs h
    cases cs with
    | nil => exact h.elim
    | cons e0 cs' =>
      obtain ⟨pc', lab, i, n, r1, r2, r3⟩ := e0
      obtain ⟨e1, hh⟩ := am_if_of h
      clear h
      have h := hh
      clear hh
      subst e1
      have hmem := hcs _ List.mem_cons_self
      have hck := hchk _ hmem
      have hckX := hchkX _ hmem
      unfold am_chk at hck
      rw [Bool.and_eq_true, decide_eq_true_eq] at hck
      obtain ⟨hd, hci⟩ := hck
      have hnx : ∀ L S σ, am_blkC G cal calX full hp Q f ph (pc' + n) cs' L S σ → am_M p l e R s m args below meth c (MQ below (am_Qc w G 0 Q) args s 1 6 (fun q => w.1 ≤ q)) w G (if ph = true then 1 else 0) (if ph = true then 6 else 0) nL (pc' + n) L S σ := fun L S σ q => ih ph _ cs' L S σ (fun e he => hcs e (List.mem_cons_of_mem _ he)) q
      have hjp : ∀ off L S σ, am_blkC G cal calX full hp Q f ph ((pc' : Int) + off).toNat (am_drop ((pc' : Int) + off).toNat full) L S σ → am_M p l e R s m args below meth c (MQ below (am_Qc w G 0 Q) args s 1 6 (fun q => w.1 ≤ q)) w G (if ph = true then 1 else 0) (if ph = true then 6 else 0) nL ((pc' : Int) + off).toNat L S σ := fun off L S σ q => ih ph _ _ L S σ (fun e he => am_drop_in e he) q
      have hst : ∀ i, decode cc pc' = .ok (i, n) → am_chkI own nL (some .int) cal pc' i n r1 r2 r3 = true → am_isS i = false → am_step G cal (fun _ _ => False) (fun L S σ => am_blkC G cal calX full hp Q f ph (pc' + n) cs' L S σ) (fun off L S σ => am_blkC G cal calX full hp Q f ph ((pc' : Int) + off).toNat (am_drop ((pc' : Int) + off).toNat full) L S σ) i r1 r2 r3 L S σ → am_M p l e R s m args below meth c (MQ below (am_Qc w G 0 Q) args s 1 6 (fun q => w.1 ≤ q)) w G (if ph = true then 1 else 0) (if ph = true then 6 else 0) nL pc' L S σ :=
        fun i hd hci hz q => am_stepN_ok hx hb hml hown hT hK hcal hrm (by split <;> omega) (by split <;> omega) (fun z => by rw [hz] at z; cases z) hd hci hnx hjp q
      have hz := hS _ hmem
      dsimp only at hz
      split at h
      · split at h
        · rename_i v
          simp only [am_chkI, decide_eq_true_eq, Bool.and_eq_true] at hci
          have hn1 : n = 1 := by omega
          subst hn1
          have hret := am_ret0 (rt := 0) (m := m) (cells := 1) (slots := 6) (L := L) (nL := nL) (G := G) (R := R) (l := l) (below := below) (args := args) (p := p) (e := e) (Q := Q) (x := v) (σ := σ) hx hb hlk hK hr rfl hd h
          cases ph with
          | true => exact hret
          | false => exact am_weak hret
        · exact h.elim
      · rename_i idx
        obtain ⟨⟨g1, g2⟩, h⟩ := am_if_of h
        subst g1
        rcases h with h | h
        · exact hst _ hd hci hz h
        · obtain ⟨E, h, hE⟩ := h
          obtain ⟨a, ha, e1, xs, S', k1, rfl, k3, k4⟩ := am_callX_of h
          unfold am_chkRX at hrmX
          rw [List.all_eq_true] at hrmX
          have hr1 := hrmX a ha
          rw [decide_eq_true_eq] at hr1
          unfold am_chkX at hckX
          dsimp only at hckX
          split at hckX
          · cases hckX
          · rename_i q hq
            rw [List.all_eq_true] at hckX
            have hc1 := hckX a ha
            simp only [Bool.or_eq_true, Bool.and_eq_true, decide_eq_true_eq, Bool.not_eq_true'] at hc1
            have hc2 := hc1.resolve_left (fun q => q e1)
            have hn3 : n = 3 := by
              simp only [am_chkI] at hci
              revert hci
              simp
              omega
            subst hn3
            unfold am_recv at k4
            split at k4
            · exact k4.elim
            · rename_i o xs'
              obtain ⟨k5, k6⟩ := am_if_of k4
              exact am_callVC hx hb hml hown hT hK hS0 hw0 a (hcalX a ha) hc2.1.1 (am_in_tbl (am_wd_in hc2.2) rfl) hq hc2.1.2 k5 k1 hr1.2.2.1 hr1.2.2.2 hr1.1 hr1.2.1 k3 hd hp (hhnd _ hmem ⟨_, rfl⟩) k6 (fun k σ' hk => by
                obtain ⟨h1, eh, hk⟩ := hE k σ' hk
                exact ⟨h1, eh, fun a' ha' => ih true h1 _ L [(2, a')] σ' (fun e he => am_drop_in e he) (hk a' ha')⟩)
      · exact hst _ hd hci hz h
end AMK2
