/-! quotients, rests, shifts -/
section ZNum
theorem bmod32 {a : Int} (h0 : 0 ≤ a) (h1 : a < 2147483648) : a.bmod (2 ^ 32) = a := by
  unfold Int.bmod
  simp only [show ((2:Nat)^32 : Nat) = 4294967296 from rfl]
  split <;> omega
theorem zi_toInt0 {a : Int} (h0 : 0 ≤ a) (h1 : a < 2147483648) : (zi a).toInt = a := by
  unfold zi
  rw [Int32.toInt_ofInt]
  exact bmod32 h0 h1
theorem i_div_n {a b : Nat} (ha : a < 2147483648) (hb : b < 2147483648) : i_div a b = ((a / b : Nat) : Int) := by
  have : a / b ≤ a := Nat.div_le_self a b
  rw [i_div_def, Int32.toInt_div, zi_toInt0 (by omega) (by omega), zi_toInt0 (by omega) (by omega), Int.tdiv_eq_ediv_of_nonneg (by omega), ← Int.natCast_ediv]
  generalize a / b = q at *
  exact bmod32 (by omega) (by omega)
theorem i_rem_n {a b : Nat} (ha : a < 2147483648) (hb : b < 2147483648) : i_rem a b = ((a % b : Nat) : Int) := by
  rw [i_rem_def]
  have e : zi a / zi b = zi ((a / b : Nat) : Int) := by
    apply Int32.toInt_inj.mp
    have := i_div_n ha hb
    rw [i_div_def] at this
    have le : a / b ≤ a := Nat.div_le_self a b
    rw [this]
    generalize a / b = q at *
    exact (zi_toInt0 (by omega) (by omega)).symm
  rw [e]
  unfold zi
  rw [← Int32.ofInt_mul, ← Int32.ofInt_sub]
  have h := Nat.div_add_mod a b
  have e2 : (a : Int) - ((a / b : Nat) : Int) * (b : Int) = ((a % b : Nat) : Int) := by
    rw [← Int.natCast_mul, Nat.mul_comm]
    omega
  rw [e2]
  have : a % b ≤ a := Nat.mod_le a b
  exact zi_toInt0 (by omega) (by omega)
theorem i_shr3 {a : Nat} (ha : a < 2147483648) : i_shr a 3 = ((a / 8 : Nat) : Int) := by
  rw [i_shr_def]
  have e3 : (zi 3 &&& 31) = Int32.ofInt 3 := by decide
  rw [e3, ← Int32.toInt_toBitVec, Int32.toBitVec_shiftRight]
  have e : (((Int32.ofInt 3).toBitVec).smod 32).toNat = 3 := by decide
  unfold BitVec.sshiftRight'
  rw [e]
  unfold zi
  rw [BitVec.toInt_sshiftRight, Int32.toBitVec_ofInt, BitVec.toInt_ofInt, Int.shiftRight_eq_div_pow, bmod32 (by omega) (by omega)]
  rfl
end ZNum
