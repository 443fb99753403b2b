/-! kind: both -/
section ZKindK
variable {p b e d f F n : Nat} {w w' : CW} {τ σ : TW}
theorem nK_c (K : KR p w τ) : (nK τ : Int) = tI τ 10 ∧ nK τ ≤ 24 ∧ fI w 1 p = tI τ 10 := by
  have a : fI w 1 p = tI τ 10 := K.2.1
  have b : 0 ≤ tI τ 10 := K.2.2.1
  have c : tI τ 10 ≤ 24 := K.2.2.2.1
  have : nK τ = (tI τ 10).toNat := rfl
  exact ⟨by omega, by omega, a⟩
theorem api_kind {x y : Int} (h : INV p w τ) {K : Int → Int → CW → TW → Prop} (h1 : ∀ v : Int, K v v w τ) : wpC p (d + 251) 49 [ar p, ai x, ai y] w (zqI (fun v w' => wpT (e + 12) 69 [ai x, ai y] τ (zqI (fun v' τ' => K v v' w' τ') zno)) zno) := by
  obtain ⟨-, -, -, -, hT, -⟩ := h
  have KK := hT.kr
  obtain ⟨c1, c2, c3⟩ := nK_c KK
  have ew : w32 (tI τ 10 - 1) = tI τ 10 - 1 := w32_s (by omega) (by omega)
  have no : (ff_isKind x τ = 0 ∨ ff_in y 0 7 τ = 0) → pC_X0_kind_28 p (wpC p (d + 250)) (fun v w' => zqI (fun v w' => wpT (e + 12) 69 [ai x, ai y] τ (zqI (fun v' τ' => K v v' w' τ') zno)) zno (.inl (some (ai v))) w') w := fun z => bC_X0_kind_28 (wT_kind (by omega) (bT_kind_0 (br1 z (bT_kind_20 (h1 _)))))
  refine wC_X0_kind (Nat.zero_le _) (bC_X0_kind_0 (sC_isIn (τ := τ) (d := d + 249) ?_))
  rw [c3]
  by_cases z : 0 ≤ x ∧ x < tI τ 10
  · have ek : ff_isKind x τ = 1 := by unfold ff_isKind; rw [ew]; exact ff_in_1 (by omega)
    rw [ew, ff_in_1 (by omega)]
    refine br0 (by decide) (sC_isIn (τ := τ) (d := d + 249) ?_)
    by_cases z2 : 0 ≤ y ∧ y ≤ 7
    · rw [ff_in_1 z2]
      obtain ⟨k, hk⟩ : ∃ k : Nat, x = k := ⟨x.toNat, by omega⟩
      subst hk
      have hkn : k < nK τ := by omega
      have hk24 : k < 24 := by omega
      obtain ⟨l1, l2, l3, l4, l5, l6, l7, l8, l9, l10, l11, l12⟩ := KK.2.2.2.2.1 k hkn
      have a1 : tg w (fR w 0 p) = 112 := KK.1.1
      have a2 : ln w (fR w 0 p) = 24 := KK.1.2.1
      have hse := KK.2.2.2.2.2.2.1 k hkn
      -- the reference
      have topT : ∀ Q : Int → TW → Prop, ((y = 0 → Q (tA τ 13 k) τ) ∧ (y = 1 → Q (if ¬ (slN τ k (nK τ) = 0) then 1 else 0) τ) ∧ (y = 2 → Q (tA τ 14 k) τ) ∧ (y = 7 → Q (if ¬ ((tI τ 41) ≤ 0) ∧ (¬ ((k : Int) < (tA τ 79 0))) then 1 else 0) τ) ∧ (∀ i : Nat, i < 4 → y = 3 + i → Q (if ¬ ((tA τ 14 k) ≤ i) then tA τ 15 (4 * k + i : Nat) else (-4)) τ)) → wpT (e + 12) 69 [ai (k : Int), ai y] τ (zqI Q zno) := fun Q hQ => by
        refine wT_kind (by omega) (bT_kind_0 (br0 (fun q => ?_) ⟨fun q => ⟨by omega, hQ.1 q⟩, fun q => sT_isSealed KK.2.2.1 KK.2.2.2.1 (fa (hQ.2.1 q)), fun q => ⟨by omega, hQ.2.2.1 q⟩, fun q => fa (hQ.2.2.2.1 q), fun n0 n1 n2 n7 => ?_⟩))
        · rcases q with q | q
          · rw [ek] at q; cases q
          · rw [ff_in_1 z2] at q; cases q
        · obtain ⟨i, hi⟩ : ∃ i : Nat, y = 3 + i := ⟨(y - 3).toNat, by omega⟩
          have i4 : i < 4 := by omega
          have e1 : w32 (y - 3) = i := by rw [w32_s (by omega) (by omega)]; omega
          have e2 : w32 ((w32 ((w32 (4 * (k : Int))) + y)) - 3) = ((4 * k + i : Nat) : Int) := by rw [w32_s (a := 4 * (k : Int)) (by omega) (by omega), w32_s (a := 4 * (k : Int) + y) (by omega) (by omega), w32_s (by omega) (by omega)]; omega
          refine bT_kind_119 ?_
          rw [e1, e2]
          exact ⟨by omega, fun _ => by omega, fa (hQ.2.2.2.2 i i4 hi)⟩
      have ekd : aR w (fR w 0 p) (k : Int) = kd w p k := rfl
      refine br0 (by decide) ⟨⟨by rw [a1]; decide, by omega, by rw [a2]; omega⟩, fa ?_⟩
      rw [ekd]
      refine ⟨fun q => ⟨by rw [l1]; decide, fun _ => ?_, fa ?_⟩, fun q => ⟨by rw [l1]; decide, fa ?_⟩, fun q => ⟨by rw [l1]; decide, ?_⟩, fun q => ⟨fun nle => ?_, fa ?_⟩, fun n0 n1 n2 n7 => bC_X0_kind_148 ⟨by rw [l1]; decide, fun nle => ?_, fa ?_⟩⟩
      · rcases l5 with ⟨-, u2⟩ | ⟨u, u1, u2, u3⟩
        · rename_i nz
          exact absurd u2 nz
        · have u3' : fR w 39 (kd w p k) = kd w p u := u3
          rw [l1, u3', (KK.2.2.2.2.1 u (by omega)).1]; decide
      · refine topT _ ⟨fun _ => ?_, fun y => by omega, fun y => by omega, fun y => by omega, fun i _ y => by omega⟩
        rcases l5 with ⟨u1, u2⟩ | ⟨u, u1, u2, u3⟩
        · have u1 : tA τ 13 k = -4 := u1
          have u2 : fR w 39 (kd w p k) = 0 := u2
          rw [u2, if_pos rfl, u1]; exact h1 _
        · have u2 : tA τ 13 k = u := u2
          have u3 : fR w 39 (kd w p k) = kd w p u := u3
          have hu := KK.2.2.2.2.1 u (by omega)
          have h37 : fI w 37 (kd w p u) = u := hu.2.2.1
          rw [u3, if_neg (by have := hu.2.1; omega), h37, u2]; exact h1 _
      · refine topT _ ⟨fun y => by omega, fun _ => ?_, fun y => by omega, fun y => by omega, fun i _ y => by omega⟩
        rw [show fI w 40 (kd w p k) = slN τ k (nK τ) from hse]; exact h1 _
      · refine topT _ ⟨fun y => by omega, fun y => by omega, fun _ => ?_, fun y => by omega, fun i _ y => by omega⟩
        rw [show fI w 42 (kd w p k) = tA τ 14 k from l6]; exact h1 _
      · have h6 : 0 < fI w 6 p := by omega
        rcases hT with ⟨-, -, ⟨-, a, b⟩, -⟩ | ⟨h22, B⟩
        · omega
        · have hn := B.2.1.2.1
          obtain ⟨q1, q2, q3, q4⟩ := B.fob (f := 0) (by omega)
          refine ⟨q1, ?_⟩
          rw [show aR w (fR w 5 p) 0 = fnr w p 0 from q2, q3]
          decide
      · refine topT _ ⟨fun y => by omega, fun y => by omega, fun y => by omega, fun _ => ?_, fun i _ y => by omega⟩
        rcases hT with ⟨-, -, ⟨-, a, b⟩, -⟩ | ⟨h22, B⟩
        · rw [a, b, if_neg (fun y => y.1 (by decide)), if_neg (fun y => y.1 (by decide))]; exact h1 _
        · obtain ⟨-, ⟨-, b5, b6, b7, -⟩, c1, -⟩ := id B
          by_cases z0 : nF τ = 0
          · rw [b5, b6, z0, if_neg (fun y => y.1 (by decide)), if_neg (fun y => y.1 (by decide))]; exact h1 _
          · obtain ⟨A, lo, ps, ro, ru, lt, τ0, wy, _, ⟨h2, _⟩, h4, _⟩ := c1 0 (by omega)
            have q2 : aR w (fR w 5 p) 0 = fnr w p 0 := rfl
            have e54 : fI w 54 (fnr w p 0) = tA τ 79 0 := h2.1.2.trans h4.1.2.2.symm
            rw [q2, e54, b5, b6]; exact h1 _
      · obtain ⟨i, hi⟩ : ∃ i : Nat, y = 3 + i := ⟨(y - 3).toNat, by omega⟩
        have e1 : w32 (y - 3) = i := by rw [w32_s (by omega) (by omega)]; omega
        have l9 : tg w (fR w 41 (kd w p k)) = 102 := l9
        have l10 : ln w (fR w 41 (kd w p k)) = 4 := l10
        rw [e1]
        exact ⟨by rw [l1]; decide, l9, by omega, by rw [l10]; omega⟩
      · obtain ⟨i, hi⟩ : ∃ i : Nat, y = 3 + i := ⟨(y - 3).toNat, by omega⟩
        have e1 : w32 (y - 3) = i := by rw [w32_s (by omega) (by omega)]; omega
        have l9 : tg w (fR w 41 (kd w p k)) = 102 := l9
        have l6 : fI w 42 (kd w p k) = tA τ 14 k := l6
        rw [e1]
        refine topT _ ⟨fun y => by omega, fun y => by omega, fun y => by omega, fun y => by omega, fun j _ yj => ?_⟩
        have : j = i := by omega
        subst this
        rw [aN_102 l9, l6]
        by_cases q : tA τ 14 k ≤ (j : Int)
        · rw [if_neg (fun y => y q), if_neg (fun y => y q)]; exact h1 _
        · rw [if_pos q, if_pos q]
          have q' : (j : Int) < tA τ 14 k := by omega
          have := (l12 j q').1
          have t : aI w (fR w 41 (kd w p k)) (j : Int) = tA τ 15 (4 * k + j) := this
          rw [t, show ((4 * k + j : Nat) : Int) = 4 * k + j by omega]
          exact h1 _
    · rw [ff_in_0 z2]
      exact br1 rfl (no (Or.inr (ff_in_0 z2)))
  · rw [ew, ff_in_0 (by omega)]
    refine br1 rfl (no (Or.inl ?_))
    unfold ff_isKind
    rw [ew]
    exact ff_in_0 (by omega)
end ZKindK
