/-! count, told, guard, bound: both -/
section ZTold
variable {p b e d f F n : Nat} {w w' : CW} {τ σ : TW}
theorem api_count {x : Int} (h : INV p w τ) {K : Int → Int → CW → TW → Prop} (h1 : ∀ v : Int, K v v w τ) : wpC p (d + 251) 79 [ar p, ai x] w (zqI (fun v w' => wpT (e + 12) 104 [ai x] τ (zqI (fun v' τ' => K v v' w' τ') zno)) zno) := by
  obtain ⟨-, ⟨-, ⟨-, -, t3, -⟩, -⟩, ⟨-, f2⟩, ⟨hV, -⟩, hT, -⟩ := h
  have t3 : fI w 8 p = tI τ 1 := t3
  have k1 : fI w 1 p = tI τ 10 := hT.kr.2.1
  have k6 : fI w 6 p = tI τ 41 := by
    rcases hT with ⟨-, -, ⟨-, a, b⟩, -⟩ | ⟨-, -, ⟨-, b5, b6, -⟩, -⟩ <;> omega
  have k4 : fI w 4 p = tI τ 109 := hV.2.1
  have top : ∀ Q : Int → TW → Prop, Q (if x = 0 then tI τ 10 else (if x = 1 then tI τ 41 else (if x = 2 then tI τ 109 else (if x = 3 then tI τ 1 else (if x = 4 then tI τ 11 else (-1)))))) τ → wpT (e + 12) 104 [ai x] τ (zqI Q zno) := fun Q hQ => wT_count (by omega) (bT_count_0 (fa hQ))
  refine wC_X0_count (Nat.zero_le _) (bC_X0_count_0 ⟨fun z => top _ ?_, fun z => top _ ?_, fun z => top _ ?_, fun z => top _ ?_, fun z => top _ ?_, fun z0 z1 z2 z3 z4 => top _ ?_⟩)
  · rw [z, if_pos rfl, k1]; exact h1 _
  · rw [z, if_neg (by decide), if_pos rfl, k6]; exact h1 _
  · rw [z, if_neg (by decide), if_neg (by decide), if_pos rfl, k4]; exact h1 _
  · rw [z, if_neg (by decide), if_neg (by decide), if_neg (by decide), if_pos rfl, t3]; exact h1 _
  · rw [z, if_neg (by decide), if_neg (by decide), if_neg (by decide), if_neg (by decide), if_pos rfl, f2]; exact h1 _
  · rw [if_neg z0, if_neg z1, if_neg z2, if_neg z3, if_neg z4]; exact h1 _
theorem aN_102 {r : Nat} (h : tg w r = 102) (i : Int) : aN w r i = aI w r i := if_neg (by rw [h]; decide)
theorem api_told {x : Int} (h : INV p w τ) {K : Int → Int → CW → TW → Prop} (h1 : ∀ v : Int, K v v w τ) : wpC p (d + 251) 75 [ar p, ai x] w (zqI (fun v w' => wpT (e + 12) 101 [ai x] τ (zqI (fun v' τ' => K v v' w' τ') zno)) zno) := by
  obtain ⟨-, -, -, -, -, ⟨⟨b1, b2, b3, b4⟩, -, h0, -⟩⟩ := h
  refine wC_X0_told (Nat.zero_le _) (bC_X0_told_0 (sC_isIn (τ := τ) (d := d + 249) ⟨fun y => ?_, fa ?_⟩))
  · by_cases z : 0 ≤ x ∧ x ≤ 6
    · exact ⟨b1, by omega, by rw [b2]; omega⟩
    · exact absurd (ff_in_0 z) y
  · refine wT_told (by omega) (bT_told_0 ⟨fun y => ?_, fun y => ⟨fun z => ?_, fun z => fa ?_⟩⟩)
    · rw [y, if_neg (by decide)]; exact h1 _
    · rw [if_pos y, aN_102 b1]
      have hx : 0 ≤ x ∧ x ≤ 6 := by
        by_cases q : 0 ≤ x ∧ x ≤ 6
        · exact q
        · exact absurd (ff_in_0 q) y
      obtain ⟨i, hi⟩ : ∃ i : Nat, x = i := ⟨x.toNat, by omega⟩
      rcases h0 with ⟨-, q⟩ | ⟨q, -⟩
      · rw [hi, q i (by omega)]; exact h1 _
      · exact absurd z q
    · rw [if_pos y, aN_102 b1]
      have hx : 0 ≤ x ∧ x ≤ 6 := by
        by_cases q : 0 ≤ x ∧ x ≤ 6
        · exact q
        · exact absurd (ff_in_0 q) y
      rcases h0 with ⟨q, -⟩ | ⟨-, q0, q1, q2, q3, q4, q5, q6⟩
      · exact absurd q z
      · have : x = 0 ∨ x = 1 ∨ x = 2 ∨ x = 3 ∨ x = 4 ∨ x = 5 ∨ x = 6 := by omega
        rcases this with r | r | r | r | r | r | r <;> rw [r]
        · rw [if_pos rfl, q0]; exact h1 _
        · rw [if_neg (by decide), if_pos rfl, q1]; exact h1 _
        · rw [if_neg (by decide), if_neg (by decide), if_pos rfl, q2]; exact h1 _
        · rw [if_neg (by decide), if_neg (by decide), if_neg (by decide), if_pos rfl, q3]; exact h1 _
        · rw [if_neg (by decide), if_neg (by decide), if_neg (by decide), if_neg (by decide), if_pos rfl, q4]; exact h1 _
        · rw [if_neg (by decide), if_neg (by decide), if_neg (by decide), if_neg (by decide), if_neg (by decide), if_pos rfl, q5]; exact h1 _
        · rw [if_neg (by decide), if_neg (by decide), if_neg (by decide), if_neg (by decide), if_neg (by decide), if_neg (by decide), q6]; exact h1 _
theorem api_guard {x : Int} (h : INV p w τ) {K : Int → Int → CW → TW → Prop} (h1 : ∀ v : Int, K v v w τ) : wpC p (d + 251) 76 [ar p, ai x] w (zqI (fun v w' => wpT (e + 12) 102 [ai x] τ (zqI (fun v' τ' => K v v' w' τ') zno)) zno) := by
  obtain ⟨-, -, -, -, -, ⟨⟨b1, b2, b3, b4⟩, ⟨c1, c2, c3, c4⟩, -, ⟨g0, g1, g2⟩, -⟩⟩ := h
  have e4 : aN w (fR w 23 p) 4 = tI τ 123 := (aN_102 b1 _).trans g1
  have em : (if (32 : Int) < aN w (fR w 23 p) 4 then 32 else aN w (fR w 23 p) 4) = if ¬ (32 ≤ tI τ 123) then tI τ 123 else 32 := by
    rw [e4]
    by_cases z : (32 : Int) < tI τ 123
    · rw [if_pos z, if_neg (by omega)]
    · by_cases z' : tI τ 123 = 32
      · rw [if_neg z, if_neg (by omega), z']
      · rw [if_neg z, if_pos (by omega)]
  obtain ⟨m, hm⟩ : ∃ m, m = if ¬ (32 ≤ tI τ 123) then tI τ 123 else 32 := ⟨_, rfl⟩
  have hm' : 0 ≤ m ∧ m ≤ 32 ∧ m ≤ tI τ 123 := by
    rw [hm]
    by_cases z : 32 ≤ tI τ 123
    · rw [if_neg (by omega)]; omega
    · rw [if_pos z]; omega
  have key : ¬ (ff_in x 0 (w32 (m - 1)) τ = 0) → ∃ i : Nat, x = i ∧ (i : Int) < m := fun y => by
    rw [w32_s (by omega) (by omega)] at y
    by_cases q : 0 ≤ x ∧ x ≤ m - 1
    · exact ⟨x.toNat, by omega, by omega⟩
    · exact absurd (ff_in_0 q) y
  refine wC_X0_guard_2 (Nat.zero_le _) (bC_X0_guard_2_0 ⟨⟨b1, by decide, by rw [b2]; decide⟩, ?_⟩)
  rw [em, ← hm]
  refine sC_isIn (τ := τ) (d := d + 249) ⟨fun y => ?_, fa ?_⟩
  · obtain ⟨i, hi, hi2⟩ := key y
    exact ⟨c1, by omega, by rw [c2]; omega⟩
  · refine wT_guard (by omega) (bT_guard_0 (fa ?_))
    rw [← hm]
    refine ⟨fun y => ?_, fa ?_⟩
    · obtain ⟨i, hi, hi2⟩ := key y
      omega
    · by_cases y : ff_in x 0 (w32 (m - 1)) τ = 0
      · rw [if_neg (fun q => q y), if_neg (fun q => q y)]; exact h1 _
      · obtain ⟨i, hi, hi2⟩ := key y
        rw [if_pos y, if_pos y, aN_102 c1, hi, g2 i (by omega) (by omega)]; exact h1 _
theorem api_bound {x : Int} (h : INV p w τ) {K : Int → Int → CW → TW → Prop} (h1 : ∀ v : Int, K v v w τ) : wpC p (d + 251) 77 [ar p, ai x] w (zqI (fun v w' => wpT (e + 12) 103 [ai x] τ (zqI (fun v' τ' => K v v' w' τ') zno)) zno) := by
  obtain ⟨-, -, -, ⟨hV, -⟩, -, ⟨-, -, -, -, h4⟩⟩ := h
  have topT : ∀ Q : Int → TW → Prop, 0 ≤ tI τ 128 → tI τ 128 ≤ 8 → (∀ v, (0 ≤ x ∧ x < tI τ 128 → v = tA τ 129 x) → (¬ (0 ≤ x ∧ x < tI τ 128) → v = -4) → Q v τ) → wpT (e + 12) 103 [ai x] τ (zqI Q zno) := fun Q m0 m8 hQ => by
    have ew : w32 (tI τ 128 - 1) = tI τ 128 - 1 := w32_s (by omega) (by omega)
    refine wT_bound (by omega) (bT_bound_0 ?_)
    rw [ew]
    by_cases z : 0 ≤ x ∧ x < tI τ 128
    · rw [ff_in_1 (by omega)]
      exact ⟨fun _ => by omega, fa (hQ _ (fun _ => rfl) (fun y => absurd z y))⟩
    · rw [ff_in_0 (by omega)]
      exact ⟨fun y => absurd rfl y, fa (hQ _ (fun y => absurd y z) (fun _ => rfl))⟩
  rcases h4 with ⟨q0, q1⟩ | ⟨q0, ⟨m, q1, q2, q3⟩, q4, q5, q6⟩
  · refine wC_X0_bound (Nat.zero_le _) (bC_X0_bound_0 (br1 q0 (bC_X0_bound_32 (bC_X0_bound_33 ⟨fun y => absurd rfl y, fa ?_⟩))))
    refine topT _ (by omega) (by omega) (fun v _ v2 => ?_)
    rw [v2 (by omega)]; exact h1 _
  · have no : ¬ (0 ≤ x ∧ x < (m : Nat)) → pC_X0_bound_32 p (wpC p (d + 250)) (fun v w' => zqI (fun v w' => wpT (e + 12) 103 [ai x] τ (zqI (fun v' τ' => K v v' w' τ') zno)) zno (.inl (some (ai v))) w') x w := fun z => bC_X0_bound_32 (bC_X0_bound_33 ⟨fun y => absurd rfl y, fa (topT _ (by omega) (by omega) (fun v _ v2 => by rw [v2 (by omega)]; exact h1 _))⟩)
    refine wC_X0_bound (Nat.zero_le _) (bC_X0_bound_0 (br0 q0 (sC_isIn (τ := τ) (d := d + 249) ?_)))
    by_cases z : 0 ≤ x ∧ x ≤ 7
    · rw [ff_in_1 z]
      obtain ⟨i, hi⟩ : ∃ i : Nat, x = i := ⟨x.toNat, by omega⟩
      have hib : (111 ≤ tg w (fR w 26 p) ∧ tg w (fR w 26 p) ≤ 119) ∧ 0 ≤ x ∧ x < ln w (fR w 26 p) := ⟨by rw [q4]; decide, by omega, by rw [q5]; omega⟩
      refine ⟨fun _ => hib, ?_⟩
      by_cases z2 : i < m
      · obtain ⟨v, v1, v2, v3⟩ := (q3 i (by omega)).1 z2
        have hv := hV.2.2.2.2 v v2
        have t13 : 26 ≤ tg w (vr w p v) ∧ tg w (vr w p v) ≤ 30 := by
          rcases hv.2 with q | q | q | q | q <;> omega
        rw [hi]
        refine br1 ⟨by decide, by rw [v3]; have := hv.1.1; omega⟩ (bC_X0_bound_33 ⟨fun _ => ⟨by rw [← hi]; exact hib, ?_⟩, fa ?_⟩)
        · rw [v3]
          have : tg w (vr w p v) = 26 ∨ tg w (vr w p v) = 27 ∨ tg w (vr w p v) = 28 ∨ tg w (vr w p v) = 29 ∨ tg w (vr w p v) = 30 := by omega
          rcases this with q | q | q | q | q <;> rw [q] <;> decide
        · rw [if_pos (by decide), v3, hv.1.2.1, ← hi]
          refine topT _ (by omega) (by omega) (fun u u1 _ => ?_)
          rw [u1 (by omega), hi, v1]
          exact h1 _
      · exact br0 (fun y => y.2 (by rw [hi]; exact (q3 i (by omega)).2 (by omega))) (no (by omega))
    · rw [ff_in_0 z]
      exact ⟨fun y => absurd rfl y, br0 (fun y => y.1 rfl) (no (by omega))⟩
end ZTold
