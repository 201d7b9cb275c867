/-! PLAIN LAW 1: numbers of the machine -/
set_option maxRecDepth 100000
abbrev bnd (x : Int) : Prop := -2147483648 ≤ x ∧ x < 2147483648
theorem b_max_eq {x y : Int} (hx : bnd x) (hy : bnd y) : b_max x y = max x y := by
  unfold b_max
  by_cases h : x < y
  · rw [if_pos ((i32_lt hx hy).mpr h)]; omega
  · rw [if_neg (fun q => h ((i32_lt hx hy).mp q))]; omega
theorem b_min_eq {x y : Int} (hx : bnd x) (hy : bnd y) : b_min x y = min x y := by
  unfold b_min
  by_cases h : y < x
  · rw [if_pos ((i32_lt hy hx).mpr h)]; omega
  · rw [if_neg (fun q => h ((i32_lt hy hx).mp q))]; omega
theorem b_t_eq {x : Int} (hx : bnd x) : b_t x = x := i32_toInt hx
theorem b_ishl0 {x : Int} (hx : bnd x) : b_ishl x 0 = x := by
  unfold b_ishl
  rw [show (i32 0 &&& 31) = 0 by decide]
  have h : i32 x <<< (0 : Int32) = i32 x := by simp
  rw [h]
  exact i32_toInt hx
theorem b_ishr0 {x : Int} (hx : bnd x) : b_ishr x 0 = x := by
  unfold b_ishr
  rw [show (i32 0 &&& 31) = 0 by decide]
  have h : i32 x >>> (0 : Int32) = i32 x := by simp
  rw [h]
  exact i32_toInt hx
theorem b_and255 {x : Int} (hx : -128 ≤ x ∧ x < 128) : b_iand x 255 = x % 256 := by
  have h : ∀ k : Fin 256, b_iand ((k.val : Int) - 128) 255 = ((k.val : Int) - 128) % 256 := by decide +kernel
  have := h ⟨(x + 128).toNat, by omega⟩
  rw [show (((x + 128).toNat : Nat) : Int) - 128 = x by omega] at this
  exact this
theorem b_i2b_eq {x : Int} (hx : -128 ≤ x ∧ x < 256) : b_i2b x = if x < 128 then x else x - 256 := by
  have h : ∀ k : Fin 384, b_i2b ((k.val : Int) - 128) = if (k.val : Int) - 128 < 128 then (k.val : Int) - 128 else (k.val : Int) - 128 - 256 := by decide +kernel
  have := h ⟨(x + 128).toNat, by omega⟩
  rw [show (((x + 128).toNat : Nat) : Int) - 128 = x by omega] at this
  exact this
theorem b_i2c_eq {x : Int} (hx : 0 ≤ x ∧ x < 256) : b_i2c x = x := by
  have h : ∀ k : Fin 256, b_i2c (k.val : Int) = (k.val : Int) := by decide +kernel
  have := h ⟨x.toNat, by omega⟩
  rw [show ((x.toNat : Nat) : Int) = x by omega] at this
  exact this
/-- a byte as the JVM keeps a char below 256 -/
def bsg (x : Int) : Int := if x < 128 then x else x - 256
theorem bsg_rng {x : Int} (h : 0 ≤ x ∧ x < 256) : -128 ≤ bsg x ∧ bsg x < 128 := by
  unfold bsg
  split <;> omega
theorem bsg_and {x : Int} (h : 0 ≤ x ∧ x < 256) : b_iand (bsg x) 255 = x := by
  rw [b_and255 (bsg_rng h)]
  unfold bsg
  split <;> omega
theorem bsg_i2b {x : Int} (h : 0 ≤ x ∧ x < 256) : b_i2b (b_i2b x) = bsg x := by
  have h1 := b_i2b_eq (x := x) (by omega)
  have h2 : b_i2b x = bsg x := h1
  rw [h2, b_i2b_eq (by have := bsg_rng h; omega), if_pos (by have := bsg_rng h; omega)]
theorem b_ishr1 {x : Int} (hx : 0 ≤ x ∧ x < 2147483648) : b_ishr x 1 = x / 2 := by
  unfold b_ishr
  rw [show (i32 1 &&& 31) = 1 by decide]
  show (i32 x >>> (1 : Int32)).toBitVec.toInt = x / 2
  rw [Int32.toBitVec_shiftRight]
  show ((i32 x).toBitVec.sshiftRight ((1 : Int32).toBitVec.smod 32).toNat).toInt = x / 2
  rw [BitVec.toInt_sshiftRight]
  rw [show (i32 x).toBitVec.toInt = x from i32_toInt ⟨by omega, hx.2⟩]
  rw [show ((1 : Int32).toBitVec.smod 32).toNat = 1 by decide]
  rw [Int.shiftRight_eq_div_pow]
  rfl
