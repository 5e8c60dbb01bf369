set_option maxRecDepth 100000
/-! numbers: when the machine's arithmetic is the plain one -/
theorem bm32 {a : Int} (h1 : -2147483648 ≤ a) (h2 : a < 2147483648) : a.bmod 4294967296 = a := by
  rw [Int.bmod_eq_of_le] <;> omega
theorem bm64 {a : Int} (h1 : -9223372036854775808 ≤ a) (h2 : a < 9223372036854775808) : a.bmod 18446744073709551616 = a := by
  rw [Int.bmod_eq_of_le] <;> omega
theorem p32 : (2 : Nat) ^ 32 = 4294967296 := by decide
theorem p64 : (2 : Nat) ^ 64 = 18446744073709551616 := by decide
theorem s32 : Int32.size = 4294967296 := rfl
theorem s64 : Int64.size = 18446744073709551616 := rfl
theorem zadd_ok {a b : Int} (h1 : -2147483648 ≤ a + b) (h2 : a + b < 2147483648) : zadd a b = a + b := by
  unfold zadd
  rw [Int32.toInt_add, Int32.toInt_ofInt, Int32.toInt_ofInt, s32, p32, Int.bmod_add_bmod, Int.add_bmod_bmod]
  exact bm32 h1 h2
theorem zsub_ok {a b : Int} (h1 : -2147483648 ≤ a - b) (h2 : a - b < 2147483648) : zsub a b = a - b := by
  unfold zsub
  rw [Int32.toInt_sub, Int32.toInt_ofInt, Int32.toInt_ofInt, s32, p32, Int.bmod_sub_bmod, Int.sub_bmod_bmod]
  exact bm32 h1 h2
theorem zmul_ok {a b : Int} (h1 : -2147483648 ≤ a * b) (h2 : a * b < 2147483648) : zmul a b = a * b := by
  unfold zmul
  rw [Int32.toInt_mul, Int32.toInt_ofInt, Int32.toInt_ofInt, s32, p32, Int.bmod_mul_bmod, Int.mul_bmod_bmod]
  exact bm32 h1 h2
theorem zdiv_ok {a b : Int} (h0 : 0 ≤ a) (h1 : a < 2147483648) (h2 : 0 < b) (h3 : b < 2147483648) : zdiv a b = a / b := by
  unfold zdiv
  rw [Int32.toInt_div, Int32.toInt_ofInt_of_le (by omega) (by omega), Int32.toInt_ofInt_of_le (by omega) (by omega)]
  rw [Int.tdiv_eq_ediv_of_nonneg h0, p32]
  refine bm32 ?_ ?_
  · have := Int.ediv_nonneg h0 (Int.le_of_lt h2); omega
  · have := Int.ediv_le_self b h0; omega
theorem zrem_ok {a b : Int} (h0 : 0 ≤ a) (h1 : a < 2147483648) (h2 : 0 < b) (h3 : b < 2147483648) : zrem a b = a % b := by
  have e := zdiv_ok h0 h1 h2 h3
  have q0 := Int.ediv_nonneg h0 (Int.le_of_lt h2)
  have q1 : a / b * b ≤ a := Int.ediv_mul_le a (Int.ne_of_gt h2)
  have q2 : 0 ≤ a / b * b := Int.mul_nonneg q0 (Int.le_of_lt h2)
  have em : zmul (a / b) b = a / b * b := zmul_ok (by omega) (by omega)
  have es : zsub a (a / b * b) = a - a / b * b := zsub_ok (by omega) (by omega)
  unfold zrem
  unfold zdiv at e
  unfold zmul at em
  unfold zsub at es
  have e1 : Int32.ofInt a / Int32.ofInt b = Int32.ofInt (a / b) := by rw [← e, Int32.ofInt_toInt]
  have e2 : Int32.ofInt (a / b) * Int32.ofInt b = Int32.ofInt (a / b * b) := by rw [← em, Int32.ofInt_toInt]
  rw [e1, e2, es]
  have := Int.emod_def a b
  rw [Int.mul_comm] at this
  omega
theorem i32n (n : Nat) : (Int32.ofInt (n : Int)).toBitVec = BitVec.ofNat 32 n := by
  show BitVec.ofInt 32 (n : Int) = _
  exact BitVec.ofInt_natCast 32 n
theorem i64n (n : Nat) : (Int64.ofInt (n : Int)).toBitVec = BitVec.ofNat 64 n := by
  show BitVec.ofInt 64 (n : Int) = _
  exact BitVec.ofInt_natCast 64 n
theorem bvI32 {n : Nat} (h : n < 2147483648) : (BitVec.ofNat 32 n).toInt = n := by
  rw [BitVec.toInt_eq_toNat_of_lt, BitVec.toNat_ofNat, Nat.mod_eq_of_lt (by omega)]
  rw [BitVec.toNat_ofNat, Nat.mod_eq_of_lt (by omega)]
  omega
theorem bvI64 {n : Nat} (h : n < 9223372036854775808) : (BitVec.ofNat 64 n).toInt = n := by
  rw [BitVec.toInt_eq_toNat_of_lt, BitVec.toNat_ofNat, Nat.mod_eq_of_lt (by omega)]
  rw [BitVec.toNat_ofNat, Nat.mod_eq_of_lt (by omega)]
  omega
theorem zand_n {a b : Nat} (h : a < 2147483648) : zand a b = ((a &&& b : Nat) : Int) := by
  unfold zand
  show (Int32.ofInt a &&& Int32.ofInt b).toBitVec.toInt = _
  rw [Int32.toBitVec_and, i32n, i32n, ← BitVec.ofNat_and]
  exact bvI32 (Nat.lt_of_le_of_lt Nat.and_le_left h)
theorem zor_n {a b : Nat} (h : a < 2147483648) (h2 : b < 2147483648) : zor a b = ((a ||| b : Nat) : Int) := by
  unfold zor
  show (Int32.ofInt a ||| Int32.ofInt b).toBitVec.toInt = _
  rw [Int32.toBitVec_or, i32n, i32n, ← BitVec.ofNat_or]
  exact bvI32 (Nat.or_lt_two_pow (n := 31) h h2)
theorem jand_n {a b : Nat} (h : a < 9223372036854775808) : jand a b = ((a &&& b : Nat) : Int) := by
  unfold jand
  show (Int64.ofInt a &&& Int64.ofInt b).toBitVec.toInt = _
  rw [Int64.toBitVec_and, i64n, i64n, ← BitVec.ofNat_and]
  exact bvI64 (Nat.lt_of_le_of_lt Nat.and_le_left h)
theorem jor_n {a b : Nat} (h : a < 9223372036854775808) (h2 : b < 9223372036854775808) : jor a b = ((a ||| b : Nat) : Int) := by
  unfold jor
  show (Int64.ofInt a ||| Int64.ofInt b).toBitVec.toInt = _
  rw [Int64.toBitVec_or, i64n, i64n, ← BitVec.ofNat_or]
  exact bvI64 (Nat.or_lt_two_pow (n := 63) h h2)
theorem sm32 : ∀ k, k < 32 → ((Int32.ofInt ((k : Nat) : Int) &&& 31).toBitVec.smod 32).toNat = k := by decide +kernel
theorem sm64 : ∀ k, k < 64 → (((Int32.ofInt ((k : Nat) : Int)).toInt64 &&& 63).toBitVec.smod 64).toNat = k := by decide +kernel
theorem zshl_n {a k : Nat} (hk : k < 32) (h : a * 2 ^ k < 2147483648) : zshl a k = ((a * 2 ^ k : Nat) : Int) := by
  unfold zshl
  show (Int32.ofInt a <<< (Int32.ofInt k &&& 31)).toBitVec.toInt = _
  rw [Int32.toBitVec_shiftLeft, i32n]
  have e : (BitVec.ofNat 32 a) <<< ((Int32.ofInt (k : Int) &&& 31).toBitVec.smod 32) = BitVec.ofNat 32 (a * 2 ^ k) := by
    apply BitVec.eq_of_toNat_eq
    rw [BitVec.shiftLeft_eq', BitVec.toNat_shiftLeft, sm32 k hk, BitVec.toNat_ofNat, BitVec.toNat_ofNat, Nat.shiftLeft_eq, Nat.mod_mul_mod]
  rw [e]
  exact bvI32 h
theorem zshr_n {a k : Nat} (hk : k < 32) (h : a < 2147483648) : zshr a k = ((a / 2 ^ k : Nat) : Int) := by
  unfold zshr
  show (Int32.ofInt a >>> (Int32.ofInt k &&& 31)).toBitVec.toInt = _
  rw [Int32.toBitVec_shiftRight, i32n, BitVec.sshiftRight_eq', sm32 k hk, BitVec.toInt_sshiftRight, bvI32 h]
  rw [Int.shiftRight_eq_div_pow]
  rfl
theorem jshl_n {a k : Nat} (hk : k < 64) (h : a * 2 ^ k < 9223372036854775808) : jshl a k = ((a * 2 ^ k : Nat) : Int) := by
  unfold jshl
  show (Int64.ofInt a <<< ((Int32.ofInt k).toInt64 &&& 63)).toBitVec.toInt = _
  rw [Int64.toBitVec_shiftLeft, i64n]
  have e : (BitVec.ofNat 64 a) <<< (((Int32.ofInt (k : Int)).toInt64 &&& 63).toBitVec.smod 64) = BitVec.ofNat 64 (a * 2 ^ k) := by
    apply BitVec.eq_of_toNat_eq
    rw [BitVec.shiftLeft_eq', BitVec.toNat_shiftLeft, sm64 k hk, BitVec.toNat_ofNat, BitVec.toNat_ofNat, Nat.shiftLeft_eq, Nat.mod_mul_mod]
  rw [e]
  exact bvI64 h
theorem jshr_n {a k : Nat} (hk : k < 64) (h : a < 9223372036854775808) : jshr a k = ((a / 2 ^ k : Nat) : Int) := by
  unfold jshr
  show (Int64.ofInt a >>> ((Int32.ofInt k).toInt64 &&& 63)).toBitVec.toInt = _
  rw [Int64.toBitVec_shiftRight, i64n, BitVec.sshiftRight_eq', sm64 k hk, BitVec.toInt_sshiftRight, bvI64 h]
  rw [Int.shiftRight_eq_div_pow]
  rfl
theorem zi2c_ok {a : Int} (h0 : 0 ≤ a) (h1 : a < 65536) : zi2c a = a := by
  obtain ⟨n, rfl⟩ := Int.eq_ofNat_of_zero_le h0
  have : ∀ n, n < 65536 → zi2c ((n : Nat) : Int) = n := by
    intro n hn
    unfold zi2c
    show (((Int32.ofInt (n : Int)).toUInt32 % 65536).toInt32).toBitVec.toInt = _
    have e : ((Int32.ofInt (n : Int)).toUInt32 % 65536).toInt32.toBitVec = BitVec.ofNat 32 n := by
      show ((Int32.ofInt (n : Int)).toUInt32 % 65536).toBitVec = _
      rw [UInt32.toBitVec_mod]
      show (Int32.ofInt (n : Int)).toBitVec % 65536#32 = _
      rw [i32n]
      apply BitVec.eq_of_toNat_eq
      rw [BitVec.toNat_umod, BitVec.toNat_ofNat, BitVec.toNat_ofNat, Nat.mod_eq_of_lt (show n < 2 ^ 32 by omega)]
      exact Nat.mod_eq_of_lt hn
    rw [e]
    exact bvI32 (by omega)
  exact this n (by omega)
theorem zi2b_ok : ∀ n, n < 128 → zi2b ((n : Nat) : Int) = n := by decide +kernel
theorem zl2i_ok {a : Int} (h0 : -2147483648 ≤ a) (h1 : a < 2147483648) : zl2i a = a := by
  unfold zl2i
  rw [Int64.toInt_toInt32, Int64.toInt_ofInt, s64, p32]
  rw [bm64 (by omega) (by omega), bm32 h0 h1]
theorem i32b (x : Int32) : Int32.ofInt x.toInt = x := Int32.ofInt_toInt x
theorem i64b (x : Int64) : Int64.ofInt x.toInt = x := Int64.ofInt_toInt x
theorem sm64u : ∀ k, k < 64 → (((Int32.ofInt ((k : Nat) : Int)).toInt64.toUInt64 &&& Int64.toUInt64 63).toBitVec % 64).toNat = k := by decide +kernel
theorem byte_eq (w : Int) {k : Nat} (hk : k ≤ 56) : zand (zl2i (jshr w k)) 255 = zand (zl2i (jushr w k)) 255 := by
  unfold zand zl2i jshr jushr
  rw [i64b, i64b, i32b, i32b]
  congr 1
  apply Int32.toBitVec_inj.mp
  rw [Int32.toBitVec_and, Int32.toBitVec_and]
  apply BitVec.eq_of_getLsbD_eq
  intro i hi
  rw [BitVec.getLsbD_and, BitVec.getLsbD_and]
  have e255 : (Int32.ofInt 255).toBitVec.getLsbD i = decide (i < 8) := by
    have : ∀ i, i < 32 → (Int32.ofInt 255).toBitVec.getLsbD i = decide (i < 8) := by decide +kernel
    exact this i hi
  rw [e255]
  by_cases h8 : i < 8
  · congr 1
    rw [Int64.toBitVec_toInt32, Int64.toBitVec_toInt32, BitVec.getLsbD_signExtend, BitVec.getLsbD_signExtend, if_pos (by omega), if_pos (by omega)]
    congr 1
    show (Int64.ofInt w >>> ((Int32.ofInt (k : Int)).toInt64 &&& 63)).toBitVec.getLsbD i = ((Int64.ofInt w).toUInt64 >>> ((Int32.ofInt (k : Int)).toInt64.toUInt64 &&& Int64.toUInt64 63)).toBitVec.getLsbD i
    rw [Int64.toBitVec_shiftRight, BitVec.sshiftRight_eq', sm64 k (by omega), BitVec.getLsbD_sshiftRight, UInt64.toBitVec_shiftRight]
    rw [BitVec.ushiftRight_eq', BitVec.getLsbD_ushiftRight, sm64u k (by omega)]
    have e1 : (!decide (64 ≤ i) && if k + i < 64 then (Int64.ofInt w).toBitVec.getLsbD (k + i) else (Int64.ofInt w).toBitVec.msb) = (Int64.ofInt w).toBitVec.getLsbD (k + i) := by
      rw [if_pos (by omega)]
      simp
      omega
    rw [e1]
    rfl
  · simp [h8]
theorem byte_rng (a : Int) : 0 ≤ zand a 255 ∧ zand a 255 ≤ 255 := by
  unfold zand
  have h : (Int32.ofInt a &&& Int32.ofInt 255).toBitVec.toNat < 256 := by
    rw [Int32.toBitVec_and, BitVec.toNat_and]
    exact Nat.lt_of_le_of_lt Nat.and_le_right (by decide)
  have e : (Int32.ofInt a &&& Int32.ofInt 255).toInt = ((Int32.ofInt a &&& Int32.ofInt 255).toBitVec.toNat : Int) := by
    show BitVec.toInt _ = _
    rw [BitVec.toInt_eq_toNat_of_lt (by omega)]
  rw [e]
  omega
