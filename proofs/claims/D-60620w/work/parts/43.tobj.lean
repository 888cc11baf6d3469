/-! the reference: objects as a whole -/
def fd (P : Int → Bool) (i : Int) (d : Int) : Nat → Int
  | 0 => d
  | n + 1 => if P i = true then i else fd P (i + 1) d n
theorem fd_cases (P : Int → Bool) (d : Int) : ∀ (n : Nat) (i : Int), (fd P i d n = d ∧ ∀ j, i ≤ j → j < i + n → P j = false) ∨ (i ≤ fd P i d n ∧ fd P i d n < i + n ∧ P (fd P i d n) = true ∧ ∀ j, i ≤ j → j < fd P i d n → P j = false)
  | 0, i => Or.inl ⟨rfl, fun j h1 h2 => by omega⟩
  | n + 1, i => by
    unfold fd
    by_cases h : P i = true
    · rw [if_pos h]
      exact Or.inr ⟨by omega, by omega, h, fun j h1 h2 => by omega⟩
    · rw [if_neg h]
      rcases fd_cases P d n (i + 1) with ⟨h1, h2⟩ | ⟨h1, h2, h3, h4⟩
      · refine Or.inl ⟨h1, fun j q1 q2 => ?_⟩
        by_cases e : j = i
        · subst e; simpa using h
        · exact h2 j (by omega) (by omega)
      · refine Or.inr ⟨by omega, by omega, h3, fun j q1 q2 => ?_⟩
        by_cases e : j = i
        · subst e; simpa using h
        · exact h4 j (by omega) q2
def ObOK (b : Int → Int) (o : Int) : Prop := HdOK o ∧ 0 ≤ oH b o ∧ o + oH b o + 64 * oS b o ≤ 65536
theorem oS_rg (b : Int → Int) (o : Int) : 0 ≤ oS b o ∧ oS b o < 65536 := nm_2 b (o + 60)
theorem ObOK.row {b : Int → Int} {o i : Int} (h : ObOK b o) (h0 : 0 ≤ i) (h1 : i < oS b o) : RowOK b o i := by
  obtain ⟨h2, h3, h4⟩ := h
  refine ⟨h2, h3, h0, ?_⟩
  unfold oR
  omega
/-- the section of symbols; 0 without -/
def symS (b : Int → Int) (o : Int) : Int := fd (fun i => decide (oT b o i = 2)) 1 0 (oS b o - 1).toNat
section TO
variable {σ : AMem} {Q : Int → AMem → Prop} {o i : Int}
theorem symbols_ok (h : ObOK (σ 9793) o) (hQ : Q (symS (σ 9793) o) σ) : T_Model_symbols [9790, o] σ Q := by
  refine of_Model_symbols fun X g0 g1 => g0 _ _ ?_
  have hs := oS_rg (σ 9793) o
  have key : ∀ (n : Nat) (i : Int), 1 ≤ i → (oS (σ 9793) o - i).toNat = n → Q (fd (fun i => decide (oT (σ 9793) o i = 2)) i 0 n) σ → X 1 [9790, o, i] σ := by
    intro n
    induction n with
    | zero =>
      intro i h1 h2 hq
      refine g1 _ _ _ (sections_ok h.1 ?_)
      show if _ then _ else _
      rw [if_neg (by omega)]
      exact hq
    | succ n ih =>
      intro i h1 h2 hq
      refine g1 _ _ _ (sections_ok h.1 ?_)
      show if _ then _ else _
      rw [if_pos (by omega)]
      refine type_ok (h.row (by omega) (by omega)) ?_
      show if _ then _ else _
      unfold fd at hq
      by_cases e : oT (σ 9793) o i = 2
      · rw [if_pos e]
        rw [if_pos (by simpa using e)] at hq
        exact hq
      · rw [if_neg e]
        rw [if_neg (by simpa using e)] at hq
        exact ⟨by unfold am_r32; omega, ih (i + 1) (by omega) (by omega) hq⟩
  exact key _ 1 (by omega) rfl hQ
end TO
