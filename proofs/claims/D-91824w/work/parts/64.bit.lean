/-! LAYER 4l: bits of numbers -/
theorem sh_amt : ∀ k : Fin 32, (Int32.ofNat k.val &&& Int32.ofNat 31).toBitVec.smod 32 = BitVec.ofNat 32 k.val := by decide
theorem i32_and (i j : Nat) : Int32.ofNat i &&& Int32.ofNat j = Int32.ofNat (i &&& j) := by
  apply Int32.toBitVec_inj.mp
  rw [Int32.toBitVec_and]
  apply BitVec.eq_of_toNat_eq
  simp [Nat.and_mod_two_pow]
theorem i32_or (i j : Nat) : Int32.ofNat i ||| Int32.ofNat j = Int32.ofNat (i ||| j) := by
  apply Int32.toBitVec_inj.mp
  rw [Int32.toBitVec_or]
  apply BitVec.eq_of_toNat_eq
  simp [Nat.or_mod_two_pow]
theorem i32_shl {i k : Nat} (hk : k < 32) : Int32.ofNat i <<< (Int32.ofNat k &&& Int32.ofNat 31) = Int32.ofNat (i <<< k) := by
  apply Int32.toBitVec_inj.mp
  rw [Int32.toBitVec_shiftLeft, sh_amt ⟨k, hk⟩]
  apply BitVec.eq_of_toNat_eq
  have : k % 4294967296 = k := Nat.mod_eq_of_lt (by omega)
  simp [BitVec.toNat_shiftLeft, this, Nat.shiftLeft_eq]
theorem i32_shr {i k : Nat} (hi : i < 2 ^ 31) (hk : k < 32) : Int32.ofNat i >>> (Int32.ofNat k &&& Int32.ofNat 31) = Int32.ofNat (i >>> k) := by
  apply Int32.toBitVec_inj.mp
  rw [Int32.toBitVec_shiftRight, sh_amt ⟨k, hk⟩]
  apply BitVec.eq_of_toNat_eq
  have e1 : (Int32.ofNat i).toBitVec = BitVec.ofNat 32 i := rfl
  have hm : (BitVec.ofNat 32 i).msb = false := by
    rw [BitVec.msb_eq_false_iff_two_mul_lt]
    simp
    omega
  have : k % 4294967296 = k := Nat.mod_eq_of_lt (by omega)
  have h2 : i % 4294967296 = i := Nat.mod_eq_of_lt (by omega)
  have h3 : i >>> k ≤ i := Nat.shiftRight_le i k
  have h4 : i >>> k % 4294967296 = i >>> k := Nat.mod_eq_of_lt (by omega)
  rw [e1, BitVec.sshiftRight_eq', BitVec.sshiftRight_eq_of_msb_false hm]
  simp [this, h2, h4]
theorem bit_test {i k : Nat} (hi : i < 2 ^ 31) (hk : k < 32) : bit32 (Int32.ofNat i) k = bI (i.testBit k) := by
  have e : bit32 (Int32.ofNat i) k = (Int32.ofNat i >>> (Int32.ofNat k &&& Int32.ofNat 31)) &&& Int32.ofNat 1 := rfl
  rw [e, i32_shr hi hk, i32_and]
  unfold Nat.testBit bI
  rw [Nat.and_comm 1]
  have h2 : (i >>> k) &&& 1 = (i >>> k) % 2 := Nat.and_one_is_mod _
  rw [h2]
  rcases Nat.mod_two_eq_zero_or_one (i >>> k) with h | h <;> rw [h] <;> rfl
