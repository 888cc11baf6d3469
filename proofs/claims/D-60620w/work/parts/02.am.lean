/-! THE ABSTRACT MACHINE, part 1: values are Ints (tag 0 int, 1 long, 2 reference: 0 null, 1 the first cell at the heap's base b) -/
abbrev AV : Type := Nat × Int
abbrev AMem : Type := Int → Int → Int
def am_adr (b : Nat) (x : Int) : Nat := b + (x - 1).toNat
def am_val (b : Nat) (v : AV) : Value := if v.1 = 0 then .int (Int32.ofInt v.2) else if v.1 = 1 then .long (Int64.ofInt v.2) else if v.2 = 0 then .null else .ref (am_adr b v.2)
def am_r32 (x : Int) : Prop := -2147483648 ≤ x ∧ x ≤ 2147483647
def am_r64 (x : Int) : Prop := -9223372036854775808 ≤ x ∧ x ≤ 9223372036854775807
def am_ok (v : AV) : Prop := if v.1 = 0 then am_r32 v.2 else if v.1 = 1 then am_r64 v.2 else 0 ≤ v.2
def w8 (x : Int) : Int := x.bmod 256
def w32 (x : Int) : Int := x.bmod 4294967296
def w64 (x : Int) : Int := x.bmod 18446744073709551616
def i_and (x y : Int) : Int := (Int32.ofInt x &&& Int32.ofInt y).toInt
def i_or (x y : Int) : Int := (Int32.ofInt x ||| Int32.ofInt y).toInt
def i_xor (x y : Int) : Int := (Int32.ofInt x ^^^ Int32.ofInt y).toInt
def i_shl (x y : Int) : Int := (Int32.ofInt x <<< (Int32.ofInt y &&& 31)).toInt
def i_shr (x y : Int) : Int := (Int32.ofInt x >>> (Int32.ofInt y &&& 31)).toInt
def l_and (x y : Int) : Int := (Int64.ofInt x &&& Int64.ofInt y).toInt
def l_or (x y : Int) : Int := (Int64.ofInt x ||| Int64.ofInt y).toInt
def l_xor (x y : Int) : Int := (Int64.ofInt x ^^^ Int64.ofInt y).toInt
def l_shl (x y : Int) : Int := (Int64.ofInt x <<< ((Int32.ofInt y).toInt64 &&& 63)).toInt
def l_shr (x y : Int) : Int := (Int64.ofInt x >>> ((Int32.ofInt y).toInt64 &&& 63)).toInt
def l_ushr (x y : Int) : Int := ((Int64.ofInt x).toUInt64 >>> ((Int32.ofInt y).toInt64.toUInt64 &&& Int64.toUInt64 63)).toInt64.toInt
def am_upd (σ : AMem) (a i v : Int) : AMem := fun b j => if b = a then (if j = i then v else σ b j) else σ b j
def am_cp (σ : AMem) (s sp d dp n : Int) : AMem := fun b j => if b = d then (if dp ≤ j ∧ j < dp + n then σ s (sp + (j - dp)) else σ b j) else σ b j
theorem am_t32 {x : Int} (h : am_r32 x) : (Int32.ofInt x).toInt = x := by
  rw [Int32.toInt_ofInt, Int.bmod_def]
  obtain ⟨h1, h2⟩ := h
  simp only [Int32.size] at *
  omega
theorem am_t64 {x : Int} (h : am_r64 x) : (Int64.ofInt x).toInt = x := by
  rw [Int64.toInt_ofInt, Int.bmod_def]
  obtain ⟨h1, h2⟩ := h
  simp only [Int64.size] at *
  omega
theorem am_o32 (x : Int32) : am_r32 x.toInt := by
  have h1 := Int32.le_toInt x
  have h2 := Int32.toInt_lt x
  unfold am_r32; omega
theorem am_o64 (x : Int64) : am_r64 x.toInt := by
  have h1 := Int64.le_toInt x
  have h2 := Int64.toInt_lt x
  unfold am_r64; omega
theorem am_lt32 {x y : Int} (hx : am_r32 x) (hy : am_r32 y) : Int32.ofInt x < Int32.ofInt y ↔ x < y := by
  rw [Int32.lt_iff_toInt_lt, am_t32 hx, am_t32 hy]
theorem am_le32 {x y : Int} (hx : am_r32 x) (hy : am_r32 y) : Int32.ofInt x ≤ Int32.ofInt y ↔ x ≤ y := by
  rw [Int32.le_iff_toInt_le, am_t32 hx, am_t32 hy]
theorem am_eq32 {x y : Int} (hx : am_r32 x) (hy : am_r32 y) : Int32.ofInt x = Int32.ofInt y ↔ x = y :=
  ⟨fun h => by rw [← am_t32 hx, ← am_t32 hy, h], fun h => by rw [h]⟩
theorem am_lt64 {x y : Int} (hx : am_r64 x) (hy : am_r64 y) : Int64.ofInt x < Int64.ofInt y ↔ x < y := by
  rw [Int64.lt_iff_toInt_lt, am_t64 hx, am_t64 hy]
theorem am_eq64 {x y : Int} (hx : am_r64 x) (hy : am_r64 y) : Int64.ofInt x = Int64.ofInt y ↔ x = y :=
  ⟨fun h => by rw [← am_t64 hx, ← am_t64 hy, h], fun h => by rw [h]⟩
theorem am_w64 (x : Int) : (Int64.ofInt x).toInt = w64 x := by rw [Int64.toInt_ofInt]; rfl
theorem am_w32 (x : Int) : (Int32.ofInt x).toInt = w32 x := by rw [Int32.toInt_ofInt]; rfl
theorem am_w8 (x : Int) : (Int8.ofInt x).toInt = w8 x := by rw [Int8.toInt_ofInt]; rfl
theorem am_b64 (x : Int) : Int64.ofInt (w64 x) = Int64.ofInt x := by rw [← am_w64, Int64.ofInt_toInt]
theorem am_b32 (x : Int) : Int32.ofInt (w32 x) = Int32.ofInt x := by rw [← am_w32, Int32.ofInt_toInt]
theorem am_rw64 (x : Int) : am_r64 (w64 x) := by rw [← am_w64]; exact am_o64 _
theorem am_rw32 (x : Int) : am_r32 (w32 x) := by rw [← am_w32]; exact am_o32 _
theorem am_i2l {x : Int} (h : am_r32 x) : (Int32.ofInt x).toInt64 = Int64.ofInt x := by
  rw [← Int64.toInt_inj, Int32.toInt_toInt64, am_t32 h, am_t64 (by unfold am_r32 at h; unfold am_r64; omega)]
theorem am_l2i (x : Int) : (Int64.ofInt x).toInt32 = Int32.ofInt (w32 x) := by
  rw [am_b32, ← Int32.toInt_inj, Int64.toInt_toInt32, am_w64, am_w32]
  unfold w64 w32
  rw [show (2 ^ 32 : Nat) = 4294967296 from rfl]
  rw [Int.bmod_bmod_of_dvd (by decide)]
theorem am_i2b (x : Int) : (Int32.ofInt x).toInt8.toInt32 = Int32.ofInt (w8 x) := by
  rw [← Int32.toInt_inj, Int8.toInt_toInt32, Int32.toInt_toInt8, am_w32, am_w32]
  unfold w32 w8
  rw [show (2 ^ 8 : Nat) = 256 from rfl, Int.bmod_bmod_of_dvd (by decide)]
  have h1 := Int.bmod_lt (x := x) (m := 256) (by decide)
  have h2 := Int.le_bmod (x := x) (m := 256) (by decide)
  rw [Int.bmod_def (m := 4294967296)]
  omega
