/-! function: both -/
section ZApif
variable {p b e d f F n lo wy base lt : Nat} {w wS : CW} {τ σ ρ τ0 : TW} {rs : List (Nat × Nat)} {ps : List Pa} {ro : Nat × Nat → Nat}
theorem api_function {x1 x2 : Int} (h : INV p w τ) {K : Int → Int → CW → TW → Prop} (h1 : ∀ v : Int, K v v w τ) : wpC p (d + 251) 51 [ar p, ai x1, ai x2] w (zqI (fun v w' => wpT (e + 12) 72 [ai x1, ai x2] τ (zqI (fun v' τ' => K v v' w' τ') zno)) zno) := by
  have no : (ff_isFunction x1 τ = 0 ∨ ff_in x2 0 8 τ = 0) → pC_X0_function_20 p (wpC p (d + 250)) (fun v w' => zqI (fun v w' => wpT (e + 12) 72 [ai x1, ai x2] τ (zqI (fun v' τ' => K v v' w' τ') zno)) zno (.inl (some (ai v))) w') w := fun z => bC_X0_function_20 (wT_function (by omega) (bT_function_0 (br1 z (bT_function_20 (h1 _)))))
  refine wC_X0_function (Nat.zero_le _) (bC_X0_function_0 (sC_isFn (d := d + 248) h (fun f hf hfn hB h22 e1 => br0 (by decide) ?_) (fun e0 => br1 rfl (no (Or.inl e0)))))
  refine sC_isIn (τ := τ) (d := d + 249) ?_
  by_cases z2 : 0 ≤ x2 ∧ x2 ≤ 8
  · rw [ff_in_1 z2]
    obtain ⟨q1, q2, q3, q4⟩ := hB.fob hfn
    obtain ⟨A, lo, ps, ro, ru, lt, τ0, wy, hL, ⟨⟨hC1, hC2⟩, hlt⟩, hT, -, hkx, -⟩ := hB.2.2.1 f hfn
    have h46 := (hB.2.2.2.2 f hfn).1
    have h12 : f < 12 := by have := hB.2.1.2.2.2.1; omega
    subst hf
    have q2' : aR w (fR w 5 p) (f : Int) = fnr w p f := q2
    obtain ⟨F, eF⟩ : ∃ F, F = fnr w p f := ⟨_, rfl⟩
    rw [← eF] at hL hC1 hC2 q2' q3 q4
    obtain ⟨⟨⟨t1, t2, t3, t4, t5⟩, ⟨r1, r2, r3, r4⟩, -⟩, ⟨m, hm⟩, ⟨_, _, k1, k2, -⟩, ⟨l1, l2, l3⟩, ⟨g1, g2, g3, g4⟩, -⟩ := id hL
    obtain ⟨⟨m1, m2, m3, m4⟩, m5⟩ := hm
    have hlen : ((rowsK τ f 0 (rk τ f)).length : Int) = tA τ 46 f := by
      rw [h46]
      refine rowsK_len (n := rk τ f) (fun i hi => ?_) _ (Nat.le_refl _)
      obtain ⟨_, _, rr⟩ := hL.rus hi
      have := (rur_rows rr).1
      omega
    have topT : ∀ Q : Int → TW → Prop, ((x2 = 0 → Q (tA τ 43 f) τ) ∧ (x2 = 1 → Q (tA τ 45 f) τ) ∧ (x2 = 2 → Q (tA τ 46 f) τ) ∧ (x2 = 3 → Q (tA τ 77 f) τ) ∧ (x2 = 4 → Q (tA τ 78 f) τ) ∧ (x2 = 5 → Q (dpt τ0 (rowsK τ0 f 0 (rk τ f)) wy 121 [] : Nat) τ) ∧ (∀ i : Nat, i < 3 → x2 = 6 + i → Q (if ¬ ((tA τ 43 f) ≤ i) then tA τ 44 (3 * f + i : Nat) else (-4)) τ)) → wpT (e + 12) 72 [ai (f : Int), ai x2] τ (zqI Q zno) := fun Q hQ => by
      refine wT_function (by omega) (bT_function_0 (br0 (fun q => ?_) ⟨fun q => ⟨by omega, hQ.1 q⟩, fun q => ⟨by omega, hQ.2.1 q⟩, fun q => ⟨by omega, hQ.2.2.1 q⟩, fun q => ⟨by omega, hQ.2.2.2.1 q⟩, fun q => ⟨by omega, hQ.2.2.2.2.1 q⟩, fun q => sT_depth (d := e + 10) hT h12 (hQ.2.2.2.2.2.1 q), fun n0 n1 n2 n3 n4 n5 => ?_⟩))
      · rcases q with q | q
        · rw [e1] at q; cases q
        · rw [ff_in_1 z2] at q; cases q
      · obtain ⟨i, hi⟩ : ∃ i : Nat, x2 = 6 + i := ⟨(x2 - 6).toNat, by omega⟩
        have i3 : i < 3 := by omega
        have e1 : w32 (x2 - 6) = i := by rw [w32_s (by omega) (by omega)]; omega
        have e2 : w32 ((w32 ((w32 (3 * (f : Int))) + x2)) - 6) = ((3 * f + i : Nat) : Int) := by rw [w32_s (a := 3 * (f : Int)) (by omega) (by omega), w32_s (a := 3 * (f : Int) + x2) (by omega) (by omega), w32_s (by omega) (by omega)]; omega
        rw [e1, e2]
        exact ⟨by omega, fun _ => by omega, fa (hQ.2.2.2.2.2.2 i i3 hi)⟩
    refine br0 (by decide) ⟨q1, fa ?_⟩
    rw [q2']
    refine ⟨fun q => ⟨by rw [q3]; decide, ?_⟩, fun q => ⟨by rw [q3]; decide, ?_⟩, fun q => ⟨by rw [q3]; decide, by rw [g1, g3.1]; decide, ?_⟩, fun q => ⟨by rw [q3]; decide, nd_tag hC2.1.2.1, ?_⟩, fun q => ⟨by rw [q3]; decide, ?_⟩, fun q => ⟨by rw [q3]; decide, nd_tag hC2.1.2.1, ?_⟩, fun n0 n1 n2 n3 n4 n5 => ?_⟩
    · refine topT _ ⟨fun _ => ?_, fun y => by omega, fun y => by omega, fun y => by omega, fun y => by omega, fun y => by omega, fun i _ y => by omega⟩
      rw [m2, m1]; exact h1 _
    · refine topT _ ⟨fun y => by omega, fun _ => ?_, fun y => by omega, fun y => by omega, fun y => by omega, fun y => by omega, fun i _ y => by omega⟩
      rw [k2, k1]; exact h1 _
    · refine topT _ ⟨fun y => by omega, fun y => by omega, fun _ => ?_, fun y => by omega, fun y => by omega, fun y => by omega, fun i _ y => by omega⟩
      rw [g1, g4, hlen]; exact h1 _
    · refine sC_many (d := d + 129) 121 _ _ _ hC2 (by decide) (by have := hT.2.2.2; omega) _ ?_
      refine topT _ ⟨fun y => by omega, fun y => by omega, fun y => by omega, fun _ => ?_, fun y => by omega, fun y => by omega, fun i _ y => by omega⟩
      rw [hT.1.1]; exact h1 _
    · refine topT _ ⟨fun y => by omega, fun y => by omega, fun y => by omega, fun y => by omega, fun _ => ?_, fun y => by omega, fun i _ y => by omega⟩
      rw [hC1.1, hT.1.2.1]; exact h1 _
    · refine sC_depth (d := d + 129) 121 _ _ _ hC2 (by decide) (by decide) (by have := hT.2.2.2; omega) _ ?_
      refine topT _ ⟨fun y => by omega, fun y => by omega, fun y => by omega, fun y => by omega, fun y => by omega, fun _ => ?_, fun i _ y => by omega⟩
      exact h1 _
    · obtain ⟨i, hi⟩ : ∃ i : Nat, x2 = 6 + i := ⟨(x2 - 6).toNat, by omega⟩
      have i3 : i < 3 := by omega
      have e1 : w32 (x2 - 6) = i := by rw [w32_s (by omega) (by omega)]; omega
      rw [e1, r1]
      refine ⟨by rw [q3]; decide, fun _ => ⟨by rw [q3]; decide, r2, by omega, by rw [r3]; omega⟩, fa ?_⟩
      refine topT _ ⟨fun y => by omega, fun y => by omega, fun y => by omega, fun y => by omega, fun y => by omega, fun y => by omega, fun j _ yj => ?_⟩
      have : j = i := by omega
      subst this
      rw [aN_102 r2, m2, m1]
      by_cases q : (m : Int) ≤ (j : Int)
      · rw [if_neg (fun y => y q), if_neg (fun y => y q)]; exact h1 _
      · rw [if_pos q, if_pos q, (m4 j (by omega)).1]; exact h1 _
  · rw [ff_in_0 z2]
    exact br1 rfl (no (Or.inr (ff_in_0 z2)))
end ZApif
