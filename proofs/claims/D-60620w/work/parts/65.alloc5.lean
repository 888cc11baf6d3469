/-! ALLOCATING, part 5: the layout cut at N cells, and whole -/
def GC (N : Int) : AG := (fun a => if a ≤ N then ly_k a else 0, ly_l, fun _ _ => 0)
theorem GC_nxt {N : Int} {kd : Nat} (h0 : 0 ≤ N) (hk : ly_k (N + 1) = kd) (hne : kd ≠ 0) : am_nxt (GC N) N kd (GC (N + 1)) := by
  refine ⟨fun a => ?_, rfl, rfl, fun a ha => ?_, h0, hne⟩
  · show (if a ≤ N + 1 then ly_k a else 0) = if a = N + 1 then kd else if a ≤ N then ly_k a else 0
    by_cases e : a = N + 1
    · subst e; rw [if_pos (Int.le_refl _), if_pos rfl, hk]
    · rw [if_neg e]
      by_cases h : a ≤ N
      · rw [if_pos h, if_pos (by omega)]
      · rw [if_neg h, if_neg (by omega)]
  · show (if a ≤ N then ly_k a else 0) = 0
    rw [if_neg (by omega)]
theorem GC_at {N a : Int} (h : a ≤ N) : (GC N).1 a = ly_k a := if_pos h
theorem GC_full {w : AW} {σ : AMem} {H : Heap} {N : Int} (hR : am_rep w (GC N) σ H) (hend : ∀ a, N < a → ly_k a = 0) (hfin : ∀ (a : Int) (k : Nat), GR.2.2 a k ≠ 0 → σ a k = (GR.2.2 a k : Nat)) (hG : GR.1 = ly_k) (hG2 : GR.2.1 = ly_l) : am_rep w GR σ H := by
  intro a ha
  have hle : a ≤ N := Int.not_lt.mp (fun h => ha (by rw [hG]; exact hend a h))
  have e1 : (GC N).1 a = GR.1 a := by rw [hG]; exact if_pos hle
  obtain ⟨h1, h2, h3⟩ := hR a (by rw [e1]; exact ha)
  refine ⟨h1, fun hk => ?_, fun hk => ?_⟩
  · obtain ⟨t, g⟩ := h2 (by rw [e1]; exact hk)
    refine ⟨t, ?_⟩
    rw [← e1, hG2]
    exact g
  · obtain ⟨q, g1, g2, g3, g4⟩ := h3 (by rw [e1]; exact hk)
    refine ⟨q, ?_, ?_, ?_, hfin a⟩
    · rw [← e1]; exact g1
    · rw [← e1]; exact g2
    · rw [← e1]; exact g3
