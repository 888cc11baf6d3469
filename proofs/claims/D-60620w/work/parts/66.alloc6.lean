/-! ALLOCATING, part 6: the contract of a constructor -/
/-- number, name and code, tags (this first), cells and slots made, room, meaning: (cells before) (arguments) (memory) (post) -/
abbrev AI : Type := Nat × (MethodName × ByteArray × Nat) × List Nat × (Nat × Nat) × Room × (Nat → List Int → AMem → (AMem → Prop) → Prop)
def am_Ao (U : State) : Prop := ∀ C ∈ ["LinkHouse$Part", "LinkHouse$Name", "LinkHouse$Container", "LinkHouse$Segment"], va_AO C U
def am_PcI (w : AW) (N0 : Nat) (tags : List Nat) (xs : List Int) (σ : AMem) : Array Value → State → Prop := va_Pc (am_vals w.1 tags xs) (fun U => (∀ v ∈ List.zip tags xs, am_ok v) ∧ am_rep w (GC (N0 : Int)) σ U.heap ∧ am_K w U ∧ U.heap.size = w.1 + N0 ∧ am_Ao U)
def am_QcI (w : AW) (N : Nat) (Q : AMem → Prop) : Array Value → State → Outcome → State → Prop := fun _ st o t =>
  ∃ σ' : AMem, o = .returned none ∧ am_rep w (GC (N : Int)) σ' t.heap ∧ am_K w t ∧ Q σ' ∧ st.heap.size ≤ t.heap.size ∧ ∀ q, q < w.1 → t.heap[q]? = st.heap[q]?
def am_SI (l : Launch) (w : AW) (a : AI) : Prop := (Cond.code a.2.1.1 a.2.1.2.1 a.2.1.2.2 none ∈ am_tbl ∧ Cond.initialized a.2.1.1.cls ∈ am_tbl ∧ Cond.instanceMethod a.2.1.1 ∈ am_tbl) ∧
  ∀ (N0 : Nat) (xs : List Int) (σ : AMem) (Q : AMem → Prop), a.2.2.2.2.2 N0 xs σ Q → xs.length = a.2.2.1.length → Met l a.2.1.1 (Cond.code a.2.1.1 a.2.1.2.1 a.2.1.2.2 none :: am_tbl) a.2.2.2.2.1 (am_PcI w N0 a.2.2.1 xs σ) (am_QcI w (N0 + a.2.2.2.1.1) Q) a.2.2.2.1.1 a.2.2.2.1.2 (fun q => w.1 ≤ q)
