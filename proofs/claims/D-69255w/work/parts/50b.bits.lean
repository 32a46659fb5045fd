/-! LAYER 3, 0b: bits -/
def bit32 (x : Int) (k : Nat) : Bool := (BitVec.ofInt 32 x).getLsbD k
def bit64 (x : Int) (k : Nat) : Bool := (BitVec.ofInt 64 x).getLsbD k
theorem i32_bv (x : Int32) : BitVec.ofInt 32 x.toInt = x.toBitVec := by
  show BitVec.ofInt 32 x.toBitVec.toInt = _
  exact BitVec.ofInt_toInt
theorem i64_bv (x : Int64) : BitVec.ofInt 64 x.toInt = x.toBitVec := by
  show BitVec.ofInt 64 x.toBitVec.toInt = _
  exact BitVec.ofInt_toInt
theorem of32_bv (x : Int) : (Int32.ofInt x).toBitVec = BitVec.ofInt 32 x := rfl
theorem of64_bv (x : Int) : (Int64.ofInt x).toBitVec = BitVec.ofInt 64 x := rfl
theorem bit32_and (x y : Int) (k : Nat) : bit32 (i_and x y) k = (bit32 x k && bit32 y k) := by
  unfold bit32; rw [i_and_e, i32_bv, Int32.toBitVec_and, of32_bv, of32_bv, BitVec.getLsbD_and]
theorem bit32_or (x y : Int) (k : Nat) : bit32 (i_or x y) k = (bit32 x k || bit32 y k) := by
  unfold bit32; rw [i_or_e, i32_bv, Int32.toBitVec_or, of32_bv, of32_bv, BitVec.getLsbD_or]
theorem bit32_xor (x y : Int) (k : Nat) : bit32 (i_xor x y) k = (bit32 x k ^^ bit32 y k) := by
  unfold bit32; rw [i_xor_e, i32_bv, Int32.toBitVec_xor, of32_bv, of32_bv, BitVec.getLsbD_xor]
theorem bit64_and (x y : Int) (k : Nat) : bit64 (l_and x y) k = (bit64 x k && bit64 y k) := by
  unfold bit64; rw [l_and_e, i64_bv, Int64.toBitVec_and, of64_bv, of64_bv, BitVec.getLsbD_and]
theorem bit64_or (x y : Int) (k : Nat) : bit64 (l_or x y) k = (bit64 x k || bit64 y k) := by
  unfold bit64; rw [l_or_e, i64_bv, Int64.toBitVec_or, of64_bv, of64_bv, BitVec.getLsbD_or]
theorem bit64_xor (x y : Int) (k : Nat) : bit64 (l_xor x y) k = (bit64 x k ^^ bit64 y k) := by
  unfold bit64; rw [l_xor_e, i64_bv, Int64.toBitVec_xor, of64_bv, of64_bv, BitVec.getLsbD_xor]
theorem sh32_eq : ∀ k, k < 32 → (Int32.ofInt (k : Nat) &&& 31).toBitVec.smod 32 = BitVec.ofNat 32 k := by decide +kernel
theorem sh64_eq : ∀ k, k < 64 → ((Int32.ofInt (k : Nat)).toInt64 &&& 63).toBitVec.smod 64 = BitVec.ofNat 64 k := by decide +kernel
theorem bit32_shr (x : Int) {k : Nat} (hk : k < 32) (j : Nat) : bit32 (i_shr x k) j = ((BitVec.ofInt 32 x).sshiftRight k).getLsbD j := by
  unfold bit32
  rw [i_shr_e, i32_bv, Int32.toBitVec_shiftRight, sh32_eq k hk, of32_bv]
  rw [BitVec.sshiftRight_eq']
  simp [Nat.mod_eq_of_lt (show k < 4294967296 by omega)]
theorem bit32_shl (x : Int) {k : Nat} (hk : k < 32) (j : Nat) : bit32 (i_shl x k) j = ((BitVec.ofInt 32 x) <<< k).getLsbD j := by
  unfold bit32
  rw [i_shl_e, i32_bv, Int32.toBitVec_shiftLeft, sh32_eq k hk, of32_bv]
  simp [Nat.mod_eq_of_lt (show k < 4294967296 by omega)]
theorem bit64_shr (x : Int) {k : Nat} (hk : k < 64) (j : Nat) : bit64 (l_shr x k) j = ((BitVec.ofInt 64 x).sshiftRight k).getLsbD j := by
  unfold bit64
  rw [l_shr_e, i64_bv, Int64.toBitVec_shiftRight, sh64_eq k hk, of64_bv]
  rw [BitVec.sshiftRight_eq']
  simp [Nat.mod_eq_of_lt (show k < 18446744073709551616 by omega)]
theorem bit64_shl (x : Int) {k : Nat} (hk : k < 64) (j : Nat) : bit64 (l_shl x k) j = ((BitVec.ofInt 64 x) <<< k).getLsbD j := by
  unfold bit64
  rw [l_shl_e, i64_bv, Int64.toBitVec_shiftLeft, sh64_eq k hk, of64_bv]
  simp [Nat.mod_eq_of_lt (show k < 18446744073709551616 by omega)]
