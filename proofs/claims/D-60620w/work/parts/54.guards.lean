/-! THROWING, part 5: the three guards -/
theorem am_MT_mono {l : Launch} {y : MethodName} {ws : List Cond} {rm : Room} {Pc Pc' : Array Value → State → Prop} {Qc Qc' : Array Value → State → Outcome → State → Prop} (h : am_MT l y ws rm Pc Qc) (hp : ∀ a U, Pc' a U → Pc a U) (hq : ∀ a s o t, Qc a s o t → Qc' a s o t) : am_MT l y ws rm Pc' Qc' := by
  intro p e h1 h2 h3 s m args below h4 h5 h6 h7
  obtain ⟨t, o, a1, a2, a3, a4⟩ := h p e h1 h2 h3 s m args below h4 h5 (hp _ _ h6) h7
  exact ⟨t, o, a1, a2, a3, hq _ _ _ _ a4⟩
def am_atomB (q : Cond) : Bool := (tables_1.contains q && (am_good q || am_isD q)) || decide (q = .isRef (.static "java/lang/Throwable" "UNASSIGNED_STACK" "[Ljava/lang/StackTraceElement;")) || decide (q = .isRef (.static "java/lang/Throwable" "SUPPRESSED_SENTINEL" "Ljava/util/List;")) || decide (q = .laysStatic "java/lang/Throwable" "UNASSIGNED_STACK" "[Ljava/lang/StackTraceElement;") || decide (q = .laysStatic "java/lang/Throwable" "SUPPRESSED_SENTINEL" "Ljava/util/List;")
theorem am_atomX_of {q : Cond} (h : am_atomB q = true) : am_atomX q := by
  unfold am_atomB at h
  simp only [Bool.or_eq_true, Bool.and_eq_true, decide_eq_true_eq, List.contains_iff_mem] at h
  unfold am_atomX
  rcases h with (((⟨h1, h2 | h2⟩ | h) | h) | h) | h
  · exact Or.inl (am_in_tbl h1 h2)
  · exact Or.inr (Or.inl (List.mem_filter.mpr ⟨h1, h2⟩))
  · exact Or.inr (Or.inr (Or.inl h))
  · exact Or.inr (Or.inr (Or.inr (Or.inl h)))
  · exact Or.inr (Or.inr (Or.inr (Or.inr (Or.inl h))))
  · exact Or.inr (Or.inr (Or.inr (Or.inr (Or.inr h))))
theorem am_gat1 : (Bundle.ownAtoms0 "LinkHouse" 172 (am_exN 1) ["java/lang/RuntimeException", "java/lang/Exception"]).all am_atomB = true := by decide +kernel
theorem am_gat2 : (Bundle.ownAtoms0 "LinkHouse" 175 (am_exN 2) ["java/lang/RuntimeException", "java/lang/Exception"]).all am_atomB = true := by decide +kernel
theorem am_gat3 : (Bundle.ownAtoms0 "LinkHouse" 178 (am_exN 3) ["java/lang/RuntimeException", "java/lang/Exception"]).all am_atomB = true := by decide +kernel
def TX_LinkHouse_need : List Int → AMem → (Nat → AMem → Prop) → Prop := fun xs σ E => xs = [0] ∧ E 1 σ
def ax_LinkHouse_need : AX := (137, (y_LinkHouse_need, prog_1_method_3_code, 1, (Option.none : Option Jvm.ClassFile.FieldType)), [0], true, { frames := 8, cells := 1, slots := 6, locals := 220 }, TX_LinkHouse_need)
theorem SX_LinkHouse_need (l : Launch) (w : AW) (hfl : l.flags = pinnedFlags ++ [noTraceFlag]) : am_SX l w GR ax_LinkHouse_need := by
  refine ⟨ms_LinkHouse_need, fun xs σ E hT _ => ?_⟩
  obtain ⟨rfl, hE⟩ := hT
  have hg := am_guard (l := l) (w := w) (G := GR) (σ := σ) hfl 1 y_LinkHouse_need prog_1_method_3_code 170 172 rfl (by decide +kernel) ms_LinkHouse_need.1 (by decide +kernel) (by decide +kernel) (by decide +kernel) (by decide +kernel) (by decide +kernel) (by decide +kernel) (by decide +kernel) (am_in_tbl (List.contains_iff_mem.mp (by decide +kernel)) rfl) (am_in_tbl (List.contains_iff_mem.mp (by decide +kernel)) rfl) (am_in_tbl (List.contains_iff_mem.mp (by decide +kernel)) rfl) (fun q hq => am_atomX_of (List.all_eq_true.mp am_gat1 q hq))
  exact am_MT_mono hg (fun a U h => ⟨h.1, h.2.2⟩) (fun a s o t h => by
    obtain ⟨x, k, σ', cell, h1, h2, h3, ⟨h4, h4'⟩, h5⟩ := h
    subst h4; subst h4'
    exact ⟨x, _, _, cell, h1, h2, h3, hE, h5⟩)
def TX_LinkHouse_ready : List Int → AMem → (Nat → AMem → Prop) → Prop := fun xs σ E => xs = [0] ∧ E 2 σ
def ax_LinkHouse_ready : AX := (138, (y_LinkHouse_ready, prog_1_method_4_code, 1, (Option.none : Option Jvm.ClassFile.FieldType)), [0], true, { frames := 8, cells := 1, slots := 6, locals := 220 }, TX_LinkHouse_ready)
theorem SX_LinkHouse_ready (l : Launch) (w : AW) (hfl : l.flags = pinnedFlags ++ [noTraceFlag]) : am_SX l w GR ax_LinkHouse_ready := by
  refine ⟨ms_LinkHouse_ready, fun xs σ E hT _ => ?_⟩
  obtain ⟨rfl, hE⟩ := hT
  have hg := am_guard (l := l) (w := w) (G := GR) (σ := σ) hfl 2 y_LinkHouse_ready prog_1_method_4_code 173 175 rfl (by decide +kernel) ms_LinkHouse_ready.1 (by decide +kernel) (by decide +kernel) (by decide +kernel) (by decide +kernel) (by decide +kernel) (by decide +kernel) (by decide +kernel) (am_in_tbl (List.contains_iff_mem.mp (by decide +kernel)) rfl) (am_in_tbl (List.contains_iff_mem.mp (by decide +kernel)) rfl) (am_in_tbl (List.contains_iff_mem.mp (by decide +kernel)) rfl) (fun q hq => am_atomX_of (List.all_eq_true.mp am_gat2 q hq))
  exact am_MT_mono hg (fun a U h => ⟨h.1, h.2.2⟩) (fun a s o t h => by
    obtain ⟨x, k, σ', cell, h1, h2, h3, ⟨h4, h4'⟩, h5⟩ := h
    subst h4; subst h4'
    exact ⟨x, _, _, cell, h1, h2, h3, hE, h5⟩)
def TX_LinkHouse_there : List Int → AMem → (Nat → AMem → Prop) → Prop := fun xs σ E => xs = [0] ∧ E 3 σ
def ax_LinkHouse_there : AX := (166, (y_LinkHouse_there, prog_1_method_5_code, 1, (Option.none : Option Jvm.ClassFile.FieldType)), [0], true, { frames := 8, cells := 1, slots := 6, locals := 220 }, TX_LinkHouse_there)
theorem SX_LinkHouse_there (l : Launch) (w : AW) (hfl : l.flags = pinnedFlags ++ [noTraceFlag]) : am_SX l w GR ax_LinkHouse_there := by
  refine ⟨ms_LinkHouse_there, fun xs σ E hT _ => ?_⟩
  obtain ⟨rfl, hE⟩ := hT
  have hg := am_guard (l := l) (w := w) (G := GR) (σ := σ) hfl 3 y_LinkHouse_there prog_1_method_5_code 176 178 rfl (by decide +kernel) ms_LinkHouse_there.1 (by decide +kernel) (by decide +kernel) (by decide +kernel) (by decide +kernel) (by decide +kernel) (by decide +kernel) (by decide +kernel) (am_in_tbl (List.contains_iff_mem.mp (by decide +kernel)) rfl) (am_in_tbl (List.contains_iff_mem.mp (by decide +kernel)) rfl) (am_in_tbl (List.contains_iff_mem.mp (by decide +kernel)) rfl) (fun q hq => am_atomX_of (List.all_eq_true.mp am_gat3 q hq))
  exact am_MT_mono hg (fun a U h => ⟨h.1, h.2.2⟩) (fun a s o t h => by
    obtain ⟨x, k, σ', cell, h1, h2, h3, ⟨h4, h4'⟩, h5⟩ := h
    subst h4; subst h4'
    exact ⟨x, _, _, cell, h1, h2, h3, hE, h5⟩)
