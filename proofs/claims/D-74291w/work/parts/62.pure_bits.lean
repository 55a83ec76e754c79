/-! PURE: bits of small numbers -/
set_option maxRecDepth 100000
theorem i32_bv (x : Nat) : (Int32.ofInt (x : Int)).toBitVec = BitVec.ofNat 32 x := by
  rw [Int32.toBitVec_ofInt]; exact BitVec.ofInt_natCast 32 x
theorem i32_nat (b : BitVec 32) (h : b.toNat < 2147483648) : (Int32.ofBitVec b).toInt = (b.toNat : Int) := by
  show b.toInt = _
  exact BitVec.toInt_eq_toNat_of_lt (by omega)
theorem bA_nat {x y : Nat} (hx : x < 2147483648) (hy : y < 2147483648) : bA x y = ((x &&& y : Nat) : Int) := by
  have e : Int32.ofInt (x : Int) &&& Int32.ofInt (y : Int) = Int32.ofBitVec (BitVec.ofNat 32 x &&& BitVec.ofNat 32 y) := by
    apply Int32.toBitVec_inj.mp
    rw [Int32.toBitVec_and, i32_bv, i32_bv]; rfl
  have e2 : (BitVec.ofNat 32 x &&& BitVec.ofNat 32 y).toNat = x &&& y := by
    rw [BitVec.toNat_and, BitVec.toNat_ofNat, BitVec.toNat_ofNat, Nat.mod_eq_of_lt (by omega), Nat.mod_eq_of_lt (by omega)]
  have h2 : x &&& y ≤ x := Nat.and_le_left
  unfold bA
  rw [e, i32_nat _ (by omega), e2]
theorem bO_nat {x y : Nat} (hx : x < 2147483648) (hy : y < 2147483648) : bO x y = ((x ||| y : Nat) : Int) := by
  have e : Int32.ofInt (x : Int) ||| Int32.ofInt (y : Int) = Int32.ofBitVec (BitVec.ofNat 32 x ||| BitVec.ofNat 32 y) := by
    apply Int32.toBitVec_inj.mp
    rw [Int32.toBitVec_or, i32_bv, i32_bv]; rfl
  have e2 : (BitVec.ofNat 32 x ||| BitVec.ofNat 32 y).toNat = x ||| y := by
    rw [BitVec.toNat_or, BitVec.toNat_ofNat, BitVec.toNat_ofNat, Nat.mod_eq_of_lt (by omega), Nat.mod_eq_of_lt (by omega)]
  have h2 : x ||| y < 2 ^ 31 := Nat.or_lt_two_pow (by omega) (by omega)
  unfold bO
  rw [e, i32_nat _ (by omega), e2]
theorem bX_nat {x y : Nat} (hx : x < 2147483648) (hy : y < 2147483648) : bX x y = ((x ^^^ y : Nat) : Int) := by
  have e : Int32.ofInt (x : Int) ^^^ Int32.ofInt (y : Int) = Int32.ofBitVec (BitVec.ofNat 32 x ^^^ BitVec.ofNat 32 y) := by
    apply Int32.toBitVec_inj.mp
    rw [Int32.toBitVec_xor, i32_bv, i32_bv]; rfl
  have e2 : (BitVec.ofNat 32 x ^^^ BitVec.ofNat 32 y).toNat = x ^^^ y := by
    rw [BitVec.toNat_xor, BitVec.toNat_ofNat, BitVec.toNat_ofNat, Nat.mod_eq_of_lt (by omega), Nat.mod_eq_of_lt (by omega)]
  have h2 : x ^^^ y < 2 ^ 31 := Nat.xor_lt_two_pow (by omega) (by omega)
  unfold bX
  rw [e, i32_nat _ (by omega), e2]
theorem sh_nat {y : Nat} (hy : y < 32) : (Int32.ofInt (y : Int) &&& 31).toBitVec.toNat = y := by
  rw [Int32.toBitVec_and, i32_bv, BitVec.toNat_and, BitVec.toNat_ofNat]
  have e : (31 : Int32).toBitVec.toNat = 2 ^ 5 - 1 := rfl
  rw [e, Nat.and_two_pow_sub_one_eq_mod]
  omega
theorem bL_nat {x y : Nat} (hy : y < 32) (h : x * 2 ^ y < 2147483648) : bL x y = ((x * 2 ^ y : Nat) : Int) := by
  have e2 : (Int32.ofInt (x : Int) <<< (Int32.ofInt (y : Int) &&& 31)).toBitVec.toNat = x * 2 ^ y := by
    rw [Int32.toBitVec_shiftLeft, i32_bv, BitVec.shiftLeft_eq', BitVec.toNat_shiftLeft, Nat.shiftLeft_eq]
    have e3 : (BitVec.smod (Int32.ofInt (y : Int) &&& 31).toBitVec 32).toNat = y := by
      have h1 := sh_nat hy
      have h2 : (Int32.ofInt (y : Int) &&& 31).toBitVec = BitVec.ofNat 32 y := by
        apply BitVec.eq_of_toNat_eq; rw [h1, BitVec.toNat_ofNat]; omega
      rw [h2]
      have h3 : ∀ y : Nat, y < 32 → (BitVec.smod (BitVec.ofNat 32 y) 32).toNat = y := by decide
      exact h3 y hy
    rw [e3, BitVec.toNat_ofNat]
    have : x ≤ x * 2 ^ y := Nat.le_mul_of_pos_right x (Nat.two_pow_pos y)
    rw [Nat.mod_eq_of_lt (a := x) (by omega), Nat.mod_eq_of_lt (by omega)]
  unfold bL
  have := i32_nat (Int32.ofInt (x : Int) <<< (Int32.ofInt (y : Int) &&& 31)).toBitVec (by omega)
  rw [e2] at this
  exact this
theorem bR_nat {x y : Nat} (hx : x < 2147483648) (hy : y < 32) : bR x y = ((x / 2 ^ y : Nat) : Int) := by
  have hd : x / 2 ^ y ≤ x := Nat.div_le_self _ _
  have e2 : (Int32.ofInt (x : Int) >>> (Int32.ofInt (y : Int) &&& 31)).toBitVec.toNat = x / 2 ^ y := by
    have e3 : (BitVec.smod (Int32.ofInt (y : Int) &&& 31).toBitVec 32).toNat = y := by
      have h1 := sh_nat hy
      have h2 : (Int32.ofInt (y : Int) &&& 31).toBitVec = BitVec.ofNat 32 y := by
        apply BitVec.eq_of_toNat_eq; rw [h1, BitVec.toNat_ofNat]; omega
      rw [h2]
      have h3 : ∀ y : Nat, y < 32 → (BitVec.smod (BitVec.ofNat 32 y) 32).toNat = y := by decide
      exact h3 y hy
    rw [Int32.toBitVec_shiftRight, i32_bv, BitVec.sshiftRight_eq', e3]
    have hm : (BitVec.ofNat 32 x).msb = false := by
      rw [BitVec.msb_eq_decide]
      apply decide_eq_false
      rw [BitVec.toNat_ofNat]
      omega
    rw [BitVec.sshiftRight_eq_of_msb_false hm, BitVec.toNat_ushiftRight, BitVec.toNat_ofNat, Nat.shiftRight_eq_div_pow, Nat.mod_eq_of_lt (by omega)]
  unfold bR
  have := i32_nat (Int32.ofInt (x : Int) >>> (Int32.ofInt (y : Int) &&& 31)).toBitVec (by omega)
  rw [e2] at this
  exact this
