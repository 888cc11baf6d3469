/-! ALLOCATING, part 7: behind a constructor's call -/
section AMAL7
variable {p : Program} {l : Launch} {e : Env} {R : Room} {s : State} {m : MethodId} {args : Array Value} {below : List Frame} {meth : Method} {c : Code} {w : AW} {nL : Nat} {QQ : State → Prop} {cells slots : Nat}
variable {pc : Nat} {L : List (Nat × AV)} {S : List AV} {σ : AMem}
theorem am_ofRunI {H : Heap} {locs : List Loc} {ls : Array Slot} {st0 : List Value} {N mc ms : Nat} {Q : AMem → Prop} {a : Array Value} (hr : va_Run p l e R s m args below meth c H locs cells slots mc ms (F0 m pc ls st0) (S.map (am_val w.1)) (am_QcI w N Q a) (fun q => w.1 ≤ q))
    (r2 : ∀ q ∈ locs, w.1 ≤ q.base) (r3 : s.heap.size ≤ H.size) (r4 : ∀ q, q < w.1 → H[q]? = s.heap[q]?) (r5 : lv_has ls nL (L.map (am_lv w.1))) (r6 : ∀ q ∈ L, am_ok q.2) (r7 : ∀ v ∈ S, am_ok v)
    (kk : ∀ σ' : AMem, Q σ' → am_M p l e R s m args below meth c QQ w (GC (N : Int)) (cells + mc) (slots + ms) nL (pc + 3) L S σ') : W p l e R s m args below meth c H locs cells slots QQ (F0 m pc ls st0) := by
  intro T hT X
  obtain ⟨v, st₀, t, T', Lc, h0, X', hL, e1, e2, ⟨σ', hv, hrep, hK, hq, hz, hk⟩, st⟩ := hr T hT X
  have hv' : v = none := by injection hv
  subst hv'
  rw [h0] at hz hk
  obtain ⟨t2, a1, b1⟩ := kk σ' hq T'.heap (locs ++ Lc) ls (by rw [e1]; exact hrep) (fun z hz => by
      rcases List.mem_append.mp hz with h | h
      · exact r2 z h
      · exact hL z h) (by rw [e1]; exact Nat.le_trans r3 hz) (fun z hz => by rw [e1, hk z hz]; exact r4 z hz) r5 r6 r7 T' rfl X'
  refine ⟨t2, st t2 ?_, b1⟩
  show Steps p.tables e below (T'.setTop { F0 m pc ls st0 with pc := pc + 3, stack := (none : Option Value).toList ++ S.map (am_val w.1) }) t2
  exact a1
end AMAL7
