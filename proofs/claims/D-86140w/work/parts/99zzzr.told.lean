/-! what a value is, what is told of it: the component's methods of its kinds -/
section ZTold
variable {p b e d : Nat} {w : CW} {τ : TW}
theorem l_ushr8 {x : Int} (h0 : 0 ≤ x) (h1 : x < 9223372036854775808) : l_ushr x 8 = x / 256 := by
  rw [l_ushr_def]
  unfold zj zi
  have e : ((Int32.ofInt 8).toInt64.toUInt64 &&& Int64.toUInt64 63) = 8 := by decide
  rw [e]
  have e1 : ((Int64.ofInt x).toUInt64 >>> 8).toNat = x.toNat / 256 := by
    rw [UInt64.toNat_shiftRight]
    have : (Int64.ofInt x).toUInt64.toNat = x.toNat := by
      show (Int64.ofInt x).toBitVec.toNat = _
      rw [Int64.toBitVec_ofInt, BitVec.toNat_ofInt]
      omega
    rw [this]
    show x.toNat >>> 8 = _
    rw [Nat.shiftRight_eq_div_pow]
  rw [← Int64.toInt_toBitVec]
  show ((Int64.ofInt x).toUInt64 >>> 8).toBitVec.toInt = _
  rw [BitVec.toInt_eq_toNat_of_lt]
  · show (((Int64.ofInt x).toUInt64 >>> 8).toNat : Int) = _
    rw [e1]; omega
  · show 2 * ((Int64.ofInt x).toUInt64 >>> 8).toNat < _
    rw [e1]; omega
theorem l_shr_8 {x : Int} (h0 : -9223372036854775808 ≤ x) (h1 : x < 9223372036854775808) (j : Nat) (hj : j < 8) : l_shr x (8 * (j : Int)) = x / 2 ^ (8 * j) := by
  rw [l_shr_def]
  unfold zj zi
  rw [← Int64.toInt_toBitVec, Int64.toBitVec_shiftRight]
  have e : ((((Int32.ofInt (8 * (j : Int))).toInt64 &&& 63).toBitVec).smod 64).toNat = 8 * j := by
    rcases (by omega : j = 0 ∨ j = 1 ∨ j = 2 ∨ j = 3 ∨ j = 4 ∨ j = 5 ∨ j = 6 ∨ j = 7) with h | h | h | h | h | h | h | h <;> subst h <;> decide
  unfold BitVec.sshiftRight'
  rw [e]
  rw [BitVec.toInt_sshiftRight, Int64.toBitVec_ofInt, BitVec.toInt_ofInt, Int.shiftRight_eq_div_pow]
  have : x.bmod (2 ^ 64) = x := by
    unfold Int.bmod
    simp only [show ((2:Nat)^64 : Nat) = 18446744073709551616 from rfl]
    split <;> omega
  rw [this]
  rfl

theorem bT_div {x : Int} (h0 : -9223372036854775808 ≤ x) (h1 : x < 9223372036854775808) {j : Nat} (hj : j < 8) : bT x j = x / 2 ^ (8 * j) % 256 := by
  unfold bT
  rw [l_and255, w32_s (a := 8 * (j : Int)) (by omega) (by omega), l_shr_8 h0 h1 j hj, w32_s (by omega) (by omega)]
theorem okx_pos {x : Int} (h0 : -9223372036854775808 ≤ x) (h1 : x < 9223372036854775808) (h : okx x 8) : 0 ≤ x := by
  have h1' : okx x 1 := h.1.1.1.1.1.1.1
  have e := bT_div h0 h1 (j := 7) (by decide)
  have : smb (bT x 7) ∨ (bT x 7 = 0 ∧ cn x 0 = 0) := h1'.2
  have e2 : (2 : Int) ^ (8 * 7) = 72057594037927936 := by decide
  rw [e2] at e
  unfold smb at this
  omega
theorem okx_dig {x : Int} : ∀ m, m ≤ 8 → okx x m → ∀ j, 8 - m ≤ j → j < 8 → (j < 8 - m + cn x m → smb (bT x j)) ∧ (8 - m + cn x m ≤ j → bT x j = 0) := by
  intro m
  induction m with
  | zero => intro _ _ j h1 h2; omega
  | succ m ih =>
    intro hm h j h1 h2
    have hr := ih (by omega) h.1
    have ec : cn x (m + 1) = cn x m + (if bT x (7 - m) = 0 then 0 else 1) := rfl
    have h2' : smb (bT x (7 - m)) ∨ (bT x (7 - m) = 0 ∧ cn x m = 0) := h.2
    by_cases z : j = 7 - m
    · subst z
      rcases h2' with y | y
      · have : ¬ (bT x (7 - m) = 0) := fun q => by unfold smb at y; omega
        rw [if_neg this] at ec
        exact ⟨fun _ => y, fun q => by omega⟩
      · rw [if_pos y.1] at ec
        exact ⟨fun q => by omega, fun _ => y.1⟩
    · have := hr j (by omega) h2
      rcases h2' with y | y
      · have hne : ¬ (bT x (7 - m) = 0) := fun q => by unfold smb at y; omega
        rw [if_neg hne] at ec
        exact ⟨fun q => this.1 (by omega), fun q => this.2 (by omega)⟩
      · rw [if_pos y.1] at ec
        exact ⟨fun q => this.1 (by omega), fun q => this.2 (by omega)⟩
theorem div_step (x : Int) (j : Nat) : x / 2 ^ (8 * j) / 256 = x / 2 ^ (8 * (j + 1)) := by
  rw [show 8 * (j + 1) = 8 * j + 8 by omega, Int.pow_add, ← Int.ediv_ediv_of_nonneg (by exact Int.le_of_lt (Int.pow_pos (by decide)))]
  rfl
theorem told_dig {x : Int} (h0 : -9223372036854775808 ≤ x) (h1 : x < 9223372036854775808) (h : okx x 8) : (∀ j, j < cn x 8 → x / 2 ^ (8 * j) ≠ 0) ∧ x / 2 ^ (8 * cn x 8) = 0 := by
  have hp := okx_pos h0 h1 h
  have hd := okx_dig 8 (Nat.le_refl _) h
  have c8 := cn_le (x := x) 8
  refine ⟨fun j hj z => ?_, ?_⟩
  · have := (hd j (by omega) (by omega)).1 (by omega)
    rw [bT_div h0 h1 (by omega), z] at this
    unfold smb at this
    omega
  · have key : ∀ k j, j + k = 8 → cn x 8 ≤ j → x / 2 ^ (8 * j) = 0 := by
      intro k
      induction k with
      | zero =>
        intro j hj _
        have : j = 8 := by omega
        subst this
        have e2 : (2 : Int) ^ (8 * 8) = 18446744073709551616 := by decide
        rw [e2]
        omega
      | succ k ih =>
        intro j hj hc
        have a := ih (j + 1) (by omega) (by omega)
        rw [← div_step] at a
        have c := (hd j (by omega) (by omega)).2 (by omega)
        rw [bT_div h0 h1 (by omega)] at c
        omega
    exact key (8 - cn x 8) (cn x 8) (by omega) (Nat.le_refl _)
theorem sC_toldT {r : Nat} {x : Int} (hr : tg w r = 28) (hx : fI w 116 r = x) (h0 : -9223372036854775808 ≤ x) (h1 : x < 9223372036854775808) (h : okx x 8) {Q : ZRes → CW → Prop} (hQ : Q (.inl (some (ai (cn x 8)))) w) : wpC p (d + 1) 194 [ar r] w Q := by
  obtain ⟨d1, d2⟩ := told_dig h0 h1 h
  have hp := okx_pos h0 h1 h
  have c8 := cn_le (x := x) 8
  refine wC_X33_told (Nat.zero_le _) (bC_X33_told_0 ⟨by rw [hr]; decide, fa ?_⟩)
  rw [hx]
  refine bC_X33_told_7 ?_
  intro I hI
  have key : ∀ k j : Nat, j + k = cn x 8 → I (j : Int) (x / 2 ^ (8 * j)) w := by
    intro k
    induction k with
    | zero =>
      intro j hj
      have e : j = cn x 8 := by omega
      rw [e, d2]
      exact hI _ _ _ (br1 rfl (bC_X33_told_24 hQ))
    | succ k ih =>
      intro j hj
      have p0 : 0 ≤ x / 2 ^ (8 * j) := Int.ediv_nonneg hp (Int.le_of_lt (Int.pow_pos (by decide)))
      have p1 : x / 2 ^ (8 * j) ≤ x := Int.ediv_le_self _ hp
      refine hI _ _ _ (br0 (d1 j (by omega)) (fa (fa ?_)))
      rw [w32_s (by omega) (by omega), l_ushr8 p0 (by omega), div_step]
      exact ih (j + 1) (by omega)
  have := key (cn x 8) 0 (by omega)
  rw [show x / 2 ^ (8 * 0) = x by rw [Nat.mul_zero, Int.pow_zero]; omega] at this
  exact this
end ZTold
