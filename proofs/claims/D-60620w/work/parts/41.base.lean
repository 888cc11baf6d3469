/-! pure rows: numbers -/
theorem w64_id {x : Int} (h1 : -9223372036854775808 ≤ x) (h2 : x ≤ 9223372036854775807) : w64 x = x := by
  unfold w64; rw [Int.bmod_def]; omega
theorem w32_id {x : Int} (h1 : -2147483648 ≤ x) (h2 : x ≤ 2147483647) : w32 x = x := by
  unfold w32; rw [Int.bmod_def]; omega
theorem w8_id {x : Int} (h1 : -128 ≤ x) (h2 : x ≤ 127) : w8 x = x := by
  unfold w8; rw [Int.bmod_def]; omega
theorem w64_em (x : Int) : w64 x % 18446744073709551616 = x % 18446744073709551616 := by
  unfold w64; rw [Int.bmod_def]; omega
theorem w64_congr {x y : Int} (h : x % 18446744073709551616 = y % 18446744073709551616) : w64 x = w64 y := by
  unfold w64; rw [Int.bmod_def, Int.bmod_def]; omega
theorem w64_add (x y : Int) : w64 (w64 x + y) = w64 (x + y) := w64_congr (by have := w64_em x; omega)
theorem w64_add' (x y : Int) : w64 (x + w64 y) = w64 (x + y) := w64_congr (by have := w64_em y; omega)
theorem w64_sub (x y : Int) : w64 (w64 x - y) = w64 (x - y) := w64_congr (by have := w64_em x; omega)
theorem w64_sub' (x y : Int) : w64 (x - w64 y) = w64 (x - y) := w64_congr (by have := w64_em y; omega)
theorem w64_w64 (x : Int) : w64 (w64 x) = w64 x := w64_congr (w64_em x)
theorem w64_rg (x : Int) : -9223372036854775808 ≤ w64 x ∧ w64 x ≤ 9223372036854775807 := am_rw64 x
theorem w32_rg (x : Int) : -2147483648 ≤ w32 x ∧ w32 x ≤ 2147483647 := am_rw32 x
theorem w32_w64 (x : Int) : w32 (w64 x) = w32 x := by
  unfold w32 w64; rw [Int.bmod_bmod_of_dvd (by decide)]
theorem w8_w32 (x : Int) : w8 (w32 x) = w8 x := by
  unfold w32 w8; rw [Int.bmod_bmod_of_dvd (by decide)]
theorem w8_w8 (x : Int) : w8 (w8 x) = w8 x := by
  unfold w8; rw [Int.bmod_bmod_of_dvd (by decide)]
/-- the unsigned number of an int, of a long -/
def u32 (x : Int) : Nat := (x % 4294967296).toNat
def u64 (x : Int) : Nat := (x % 18446744073709551616).toNat
theorem u64_lt (x : Int) : u64 x < 2 ^ 64 := by unfold u64; omega
theorem u32_lt (x : Int) : u32 x < 2 ^ 32 := by unfold u32; omega
theorem of_u64 (x : Int) : Int64.ofInt x = lN (u64 x) := by
  rw [← Int64.toInt_inj, am_w64]
  unfold lN
  rw [Int64.toInt_ofNat']
  unfold w64 u64
  rw [Int.bmod_def, Int.bmod_def]
  simp only [Int64.size]
  omega
theorem of_u32 (x : Int) : Int32.ofInt x = nI (u32 x) := by
  rw [← Int32.toInt_inj, am_w32]
  unfold nI
  rw [Int32.toInt_ofNat']
  unfold w32 u32
  rw [Int.bmod_def, Int.bmod_def]
  simp only [Int32.size]
  omega
theorem lN_w64 (n : Nat) : (lN n).toInt = w64 n := by
  unfold lN; rw [Int64.toInt_ofNat']; rfl
theorem nI_w32 (n : Nat) : (nI n).toInt = w32 n := by
  unfold nI; rw [Int32.toInt_ofNat']; rfl
theorem l_and_u (x y : Int) : l_and x y = w64 ((u64 x &&& u64 y : Nat) : Int) := by
  unfold l_and; rw [of_u64, of_u64, wb_and (u64_lt x) (u64_lt y), lN_w64]
theorem l_or_u (x y : Int) : l_or x y = w64 ((u64 x ||| u64 y : Nat) : Int) := by
  unfold l_or; rw [of_u64, of_u64, wb_or (u64_lt x) (u64_lt y), lN_w64]
theorem of_k32 {k : Nat} : Int32.ofInt (k : Int) = nI k := by
  rw [← Int32.toInt_inj, am_w32, nI_w32]
theorem l_shl_u (x : Int) {k : Nat} (hk : k < 64) : l_shl x k = w64 (x * 2 ^ k) := by
  unfold l_shl
  rw [of_u64, of_k32, wb_shl _ hk, lN_w64]
  refine w64_congr ?_
  unfold u64
  rw [Int.natCast_mul, Int.toNat_of_nonneg (by omega), Int.natCast_pow]
  show _ % 18446744073709551616 * 2 ^ k % 18446744073709551616 = _
  rw [Int.mul_emod, Int.emod_emod_of_dvd _ (by decide), ← Int.mul_emod]
theorem l_ushr_u (x : Int) {k : Nat} (hk : k < 64) : l_ushr x k = w64 ((u64 x / 2 ^ k : Nat) : Int) := by
  unfold l_ushr
  rw [of_u64, of_k32, wb_shr (u64_lt x) hk, lN_w64]
theorem i_and_u (x y : Int) : i_and x y = w32 ((u32 x &&& u32 y : Nat) : Int) := by
  unfold i_and; rw [of_u32, of_u32, nx_and, nI_w32]
theorem i_and_255 (x : Int) : i_and x 255 = x % 256 := by
  rw [i_and_u, show u32 255 = 2 ^ 8 - 1 from rfl, Nat.and_two_pow_sub_one_eq_mod, w32_id (by omega) (by omega)]
  unfold u32
  omega
theorem u64_w64 (x : Int) : u64 (w64 x) = u64 x := by unfold u64; rw [w64_em]
theorem u64_nn {x : Int} (h0 : 0 ≤ x) (h1 : x < 18446744073709551616) : u64 x = x.toNat := by unfold u64; omega
/-- one byte more of a number -/
theorem num_step (x y : Int) (h0 : 0 ≤ y) (h1 : y < 256) : l_or (l_shl x 8) y = w64 (x * 256 + y) := by
  have e := l_shl_u x (k := 8) (by decide)
  rw [show ((8 : Nat) : Int) = 8 from rfl] at e
  rw [e, l_or_u, u64_w64]
  have hA : u64 (x * 2 ^ 8) = (u64 (x * 2 ^ 8) / 256) <<< 8 := by
    rw [Nat.shiftLeft_eq]
    unfold u64
    omega
  rw [hA, u64_nn h0 (by omega), ← Nat.shiftLeft_add_eq_or_of_lt (by omega), ← hA]
  refine w64_congr ?_
  unfold u64
  omega
/-- n bytes from p on, the lowest first -/
def le (b : Int → Int) (p : Int) : Nat → Int
  | 0 => 0
  | n + 1 => le b (p + 1) n * 256 + b p % 256
theorem le_nn (b : Int → Int) : ∀ (n : Nat) (p : Int), 0 ≤ le b p n
  | 0, _ => by unfold le; omega
  | n + 1, p => by
    have := le_nn b n (p + 1)
    unfold le; omega
theorem le_lt (b : Int → Int) : ∀ (n : Nat) (p : Int), le b p n < 256 ^ n
  | 0, _ => by unfold le; decide
  | n + 1, p => by
    have h := le_lt b n (p + 1)
    unfold le
    rw [Int.pow_succ]
    omega
def nm (b : Int → Int) (p : Int) (n : Nat) : Int := w64 (le b p n)
theorem nm_1 (b : Int → Int) (p : Int) : nm b p 1 = b p % 256 := by
  unfold nm le le; rw [w64_id (by omega) (by omega)]; omega
theorem nm_rg {b : Int → Int} {p : Int} {n : Nat} (h : n ≤ 7) : 0 ≤ nm b p n ∧ nm b p n < 256 ^ n := by
  have h1 := le_nn b n p
  have h2 := le_lt b n p
  have h3 : (256 : Int) ^ n ≤ 72057594037927936 := (show ∀ n : Nat, n ≤ 7 → (256 : Int) ^ n ≤ 72057594037927936 by decide) n h
  unfold nm
  rw [w64_id (by omega) (by omega)]
  exact ⟨h1, h2⟩
theorem nm_2 (b : Int → Int) (p : Int) : 0 ≤ nm b p 2 ∧ nm b p 2 < 65536 := by
  have := nm_rg (b := b) (p := p) (n := 2) (by decide)
  rw [show (256 : Int) ^ 2 = 65536 by decide] at this
  exact this
theorem nm_4 (b : Int → Int) (p : Int) : 0 ≤ nm b p 4 ∧ nm b p 4 < 4294967296 := by
  have := nm_rg (b := b) (p := p) (n := 4) (by decide)
  rw [show (256 : Int) ^ 4 = 4294967296 by decide] at this
  exact this
theorem nm_rng (b : Int → Int) (p : Int) (n : Nat) : -9223372036854775808 ≤ nm b p n ∧ nm b p n ≤ 9223372036854775807 := w64_rg _
