/-! the reference: its readers -/
theorem w64_m (x y : Int) : w64 (w64 x * 256 + y) = w64 (x * 256 + y) := w64_congr (by have := w64_em x; omega)
theorem num_ok {σ : AMem} {Q : Int → AMem → Prop} {p k : Int} {n : Nat} (hk : k = n) (h0 : 0 ≤ p) (h1 : p + n ≤ 65536) (hn : n ≤ 8) (hQ : Q (nm (σ 9793) p n) σ) : T_Model_num [9790, p, k] σ Q := by
  subst hk
  refine of_Model_num fun X g0 g1 => g0 _ _ _ ⟨by unfold am_r32; omega, ?_⟩
  have key : ∀ k : Nat, k ≤ n → X 1 [9790, p, w64 (le (σ 9793) (p + k) (n - k)), (k : Int) - 1] σ := by
    intro k
    induction k with
    | zero =>
      intro _
      refine g1 _ _ _ _ ?_
      unfold B_Model_num_1
      rw [if_pos (by omega)]
      simpa [nm] using hQ
    | succ k ih =>
      intro hk
      refine g1 _ _ _ _ ?_
      unfold B_Model_num_1
      rw [if_neg (by omega)]
      refine ⟨by unfold am_r32; omega, by omega, by omega, ?_⟩
      rw [am_let_eq, i_and_255, num_step _ _ (by omega) (by omega), w64_m]
      refine ⟨by unfold am_r32; omega, ?_⟩
      have e3 : n - k = (n - (k + 1)) + 1 := by omega
      have h := ih (by omega)
      rw [e3] at h
      have e1 : ((k + 1 : Nat) : Int) - 1 + -1 = (k : Int) - 1 := by omega
      have e2 : p + (((k + 1 : Nat) : Int) - 1) = p + k := by omega
      have e4 : p + ((k + 1 : Nat) : Int) = p + k + 1 := by omega
      rw [e1, e2, e4]
      exact h
  have h := key n (Nat.le_refl n)
  rw [Nat.sub_self] at h
  exact h
def oS (b : Int → Int) (o : Int) : Int := nm b (o + 60) 2
def oH (b : Int → Int) (o : Int) : Int := nm b (o + 40) 8
def oR (b : Int → Int) (o i : Int) : Int := o + oH b o + 64 * i
def oT (b : Int → Int) (o i : Int) : Int := nm b (oR b o i + 4) 4
def oF (b : Int → Int) (o i : Int) : Int := nm b (oR b o i + 8) 8
def oP (b : Int → Int) (o i : Int) : Int := nm b (oR b o i + 24) 8
def oZ (b : Int → Int) (o i : Int) : Int := nm b (oR b o i + 32) 8
def oL (b : Int → Int) (o i : Int) : Int := nm b (oR b o i + 40) 4
def oI (b : Int → Int) (o i : Int) : Int := nm b (oR b o i + 44) 4
def oA (b : Int → Int) (o i : Int) : Int := nm b (oR b o i + 48) 8
def HdOK (o : Int) : Prop := 0 ≤ o ∧ o + 64 ≤ 65536
def RowOK (b : Int → Int) (o i : Int) : Prop := HdOK o ∧ 0 ≤ oH b o ∧ 0 ≤ i ∧ oR b o i + 64 ≤ 65536
section TR
variable {σ : AMem} {Q : Int → AMem → Prop} {o i : Int}
theorem sections_ok (h : HdOK o) (hQ : Q (oS (σ 9793) o) σ) : T_Model_sections [9790, o] σ Q := by
  unfold HdOK at h
  refine (iff_Model_sections (X := fun _ _ _ => False)).mpr ⟨by unfold am_r32; omega, ?_⟩
  refine num_ok (n := 2) rfl (by omega) (by omega) (by decide) ?_
  have := nm_2 (σ 9793) (o + 60)
  show Q (w32 _) σ
  rw [w32_id (by omega) (by omega)]
  exact hQ
theorem row_ok (h : RowOK (σ 9793) o i) (hQ : Q (oR (σ 9793) o i) σ) : T_Model_row [9790, o, i] σ Q := by
  obtain ⟨⟨h1, h2⟩, h3, h4, h5⟩ := h
  have e : oR (σ 9793) o i = o + oH (σ 9793) o + 64 * i := rfl
  have e2 : nm (σ 9793) (o + 40) 8 = oH (σ 9793) o := rfl
  refine (iff_Model_row (X := fun _ _ _ => False)).mpr ⟨by unfold am_r32; omega, ?_⟩
  refine num_ok (n := 8) rfl (by omega) (by omega) (by decide) ?_
  show am_r32 _ ∧ am_r32 _ ∧ am_r32 _ ∧ Q _ σ
  rw [e2, w32_id (by omega) (by omega)]
  exact ⟨by unfold am_r32; omega, by unfold am_r32; omega, by unfold am_r32; omega, hQ⟩
theorem oR_lo (h : RowOK (σ 9793) o i) : 0 ≤ oR (σ 9793) o i ∧ oR (σ 9793) o i + 64 ≤ 65536 := by
  obtain ⟨⟨h1, h2⟩, h3, h4, h5⟩ := h
  have e : oR (σ 9793) o i = o + oH (σ 9793) o + 64 * i := rfl
  omega
theorem type_ok (h : RowOK (σ 9793) o i) (hQ : Q (oT (σ 9793) o i) σ) : T_Model_type [9790, o, i] σ Q := by
  have g := oR_lo h
  exact (iff_Model_type (X := fun _ _ _ => False)).mpr (row_ok h ⟨by unfold am_r32; omega, num_ok (n := 4) rfl (by omega) (by omega) (by decide) hQ⟩)
theorem flagsOf_ok (h : RowOK (σ 9793) o i) (hQ : Q (oF (σ 9793) o i) σ) : T_Model_flagsOf [9790, o, i] σ Q := by
  have g := oR_lo h
  exact (iff_Model_flagsOf (X := fun _ _ _ => False)).mpr (row_ok h ⟨by unfold am_r32; omega, num_ok (n := 8) rfl (by omega) (by omega) (by decide) hQ⟩)
theorem beginning_ok (h : RowOK (σ 9793) o i) (hQ : Q (oP (σ 9793) o i) σ) : T_Model_beginning [9790, o, i] σ Q := by
  have g := oR_lo h
  exact (iff_Model_beginning (X := fun _ _ _ => False)).mpr (row_ok h ⟨by unfold am_r32; omega, num_ok (n := 8) rfl (by omega) (by omega) (by decide) hQ⟩)
theorem size_ok (h : RowOK (σ 9793) o i) (hQ : Q (oZ (σ 9793) o i) σ) : T_Model_size [9790, o, i] σ Q := by
  have g := oR_lo h
  exact (iff_Model_size (X := fun _ _ _ => False)).mpr (row_ok h ⟨by unfold am_r32; omega, num_ok (n := 8) rfl (by omega) (by omega) (by decide) hQ⟩)
theorem linkOf_ok (h : RowOK (σ 9793) o i) (hQ : Q (oL (σ 9793) o i) σ) : T_Model_linkOf [9790, o, i] σ Q := by
  have g := oR_lo h
  exact (iff_Model_linkOf (X := fun _ _ _ => False)).mpr (row_ok h ⟨by unfold am_r32; omega, num_ok (n := 4) rfl (by omega) (by omega) (by decide) hQ⟩)
theorem info_ok (h : RowOK (σ 9793) o i) (hQ : Q (oI (σ 9793) o i) σ) : T_Model_info [9790, o, i] σ Q := by
  have g := oR_lo h
  exact (iff_Model_info (X := fun _ _ _ => False)).mpr (row_ok h ⟨by unfold am_r32; omega, num_ok (n := 4) rfl (by omega) (by omega) (by decide) hQ⟩)
theorem align_ok (h : RowOK (σ 9793) o i) (hQ : Q (oA (σ 9793) o i) σ) : T_Model_align [9790, o, i] σ Q := by
  have g := oR_lo h
  exact (iff_Model_align (X := fun _ _ _ => False)).mpr (row_ok h ⟨by unfold am_r32; omega, num_ok (n := 8) rfl (by omega) (by omega) (by decide) hQ⟩)
/-- a section that is loaded -/
def oK (b : Int → Int) (o i : Int) : Prop := (oT b o i = 1 ∨ oT b o i = 8) ∧ l_and (oF b o i) 2 ≠ 0
theorem isKept_ok (h : RowOK (σ 9793) o i) (h1 : oK (σ 9793) o i → Q 1 σ) (h0 : ¬ oK (σ 9793) o i → Q 0 σ) : T_Model_isKept [9790, o, i] σ Q := by
  refine of_Model_isKept fun X g0 g1 => g0 _ _ _ ?_
  have key : (oT (σ 9793) o i = 1 ∨ oT (σ 9793) o i = 8) → X 1 [9790, o, i] σ := by
    intro ht
    refine g1 _ _ _ (flagsOf_ok h ?_)
    show if _ then _ else _
    split
    · exact h0 (fun q => q.2 ‹_›)
    · exact h1 ⟨ht, ‹_›⟩
  refine type_ok h ?_
  show if _ then _ else _
  split
  · exact key (Or.inl ‹_›)
  · refine type_ok h ?_
    show if _ then _ else _
    split
    · exact key (Or.inr ‹_›)
    · exact h0 (fun q => q.1.elim ‹_› ‹_›)
end TR
