/-! is a call at hand: the component peeks -/
section ZPeek
variable {p b e d : Nat} {w : CW} {τ : TW}
theorem sC_isCall {a k : Nat} (T : tpT τ) (R : tpC p w τ) (ha : fI w 9 p = a) (hal : (a : Int) ≤ tI τ 1) (hk : Run isBl (bt τ) a k) {Q : ZRes → CW → Prop} (hQ : Q (.inl (some (ai (if bt τ k = 40 then 1 else 0)))) w) : wpC p (d + 2) 40 [ar p] w Q := by
  have h1600 := T.2.1
  have hb : ∀ j, -1 ≤ bt τ j ∧ bt τ j ≤ 255 := bt_rg T
  refine wC_X0_isCall (Nat.zero_le _) (bC_X0_isCall_0 (fa (bC_X0_isCall_5 (fun I hI => ?_))))
  rw [ha]
  have key : ∀ m j : Nat, k - j ≤ m → Run isBl (bt τ) j k → (j : Int) ≤ tI τ 1 → I j w := by
    intro m
    induction m with
    | zero =>
      intro j hj hr hjn
      apply hI
      have e : k = j := by have := hr.1; omega
      have hbl := hr.2.2
      rw [e] at hbl
      refine sC_unit T R rfl ⟨fun h => ?_, fun _ => sC_unit T R rfl ⟨fun h => ?_, fun _ => bC_X0_isCall_31 (sC_unit T R rfl (fa ?_))⟩⟩
      · exact absurd (Or.inl ((sg8_eq (hb _) (by decide) (by decide)).mp h)) hbl
      · exact absurd (Or.inr ((sg8_eq (hb _) (by decide) (by decide)).mp h)) hbl
      · rw [e] at hQ
        rw [show (if sg8 (bt τ j) = 40 then (1 : Int) else 0) = (if bt τ j = 40 then 1 else 0) by
          by_cases z : bt τ j = 40
          · rw [if_pos ((sg8_eq (hb _) (by decide) (by decide)).mpr z), if_pos z]
          · rw [if_neg (fun y => z ((sg8_eq (hb _) (by decide) (by decide)).mp y)), if_neg z]]
        exact hQ
    | succ m ih =>
      intro j hj hr hjn
      by_cases hbl : isBl (bt τ j)
      · have hj2 := bt_nn T (k := j) (fun e => by unfold isBl at hbl; omega)
        have hj3 : (j : Int) < tI τ 1 := hj2
        have hr2 := hr.step hbl
        have st : pC_X0_isCall_25 p (wpC p (d + 1)) (fun v w => Q (.inl (some (ai v))) w) I j w := bC_X0_isCall_25 (fa (by
          rw [w32_s (by omega) (by omega)]
          have := ih (j + 1) (by have := hr2.1; omega) hr2 (by omega)
          exact this))
        apply hI
        refine sC_unit T R rfl ⟨fun _ => st, fun h1 => sC_unit T R rfl ⟨fun _ => st, fun h2 => ?_⟩⟩
        rcases hbl with y | y
        · exact absurd ((sg8_eq (hb _) (by decide) (by decide)).mpr y) h1
        · exact absurd ((sg8_eq (hb _) (by decide) (by decide)).mpr y) h2
      · have e : k = j := hr.stop hbl
        exact ih j (by omega) hr hjn
  exact key (k - a) a (Nat.le_refl _) hk hal
/-- is the token behind at hand a sign 40 -/
theorem Lx_40 {bf : Nat → Int} {a : Nat} {f t s v : Int} (h : Lx bf a f t s v) : ∃ k, Run isBl bf a k ∧ (bf k = 40 ↔ s = 5 ∧ v = 40) := by
  obtain ⟨k, h1, h2, h3⟩ := h
  refine ⟨k, h1, ?_⟩
  by_cases z0 : bf k = -1
  · rw [if_pos z0] at h3; constructor <;> intro y <;> omega
  rw [if_neg z0] at h3
  by_cases z1 : isSm (bf k) ∨ isUp (bf k)
  · rw [if_pos z1] at h3
    obtain ⟨e, -, h3⟩ := h3
    have n40 : ¬ (bf k = 40) := fun y => by rw [y] at z1; unfold isSm isUp at z1; omega
    refine ⟨fun y => absurd y n40, fun y => ?_⟩
    split at h3
    · omega
    · obtain ⟨-, h3⟩ := h3
      split at h3
      · split at h3 <;> omega
      · omega
  rw [if_neg z1] at h3
  by_cases z2 : isFg (bf k)
  · rw [if_pos z2] at h3
    obtain ⟨e, -, h3⟩ := h3
    have n40 : ¬ (bf k = 40) := fun y => by rw [y] at z2; unfold isFg at z2; omega
    refine ⟨fun y => absurd y n40, fun y => ?_⟩
    split at h3 <;> omega
  rw [if_neg z2] at h3
  by_cases z3 : bf k = 39
  · rw [if_pos z3] at h3
    obtain ⟨e, -, h3⟩ := h3
    refine ⟨fun y => by omega, fun y => ?_⟩
    split at h3 <;> omega
  rw [if_neg z3] at h3
  by_cases z4 : bf k = 46 ∧ bf (k + 1) = 46
  · rw [if_pos z4] at h3
    refine ⟨fun y => by omega, fun y => by omega⟩
  rw [if_neg z4] at h3
  by_cases z5 : isSg (bf k)
  · rw [if_pos z5] at h3
    obtain ⟨-, h4, h5⟩ := h3
    rw [h5]
    exact ⟨fun y => ⟨h4, y⟩, fun y => y.2⟩
  · rw [if_neg z5] at h3
    refine ⟨fun y => ?_, fun y => by omega⟩
    exact absurd (Or.inr (Or.inr (Or.inl y))) z5
/-- what the component peeks at, by the token that comes -/
theorem peekL {τ' : TW} (h : RB p w τ) (hL : Lx (bt τ) (tI τ 6).toNat (tI τ' 5) (tI τ' 6) (tI τ' 3) (tI τ' 4)) {Q : ZRes → CW → Prop} (hQ : Q (.inl (some (ai (ff_isSign 40 τ')))) w) : wpC p (d + 2) 40 [ar p] w Q := by
  obtain ⟨k, k1, k2⟩ := Lx_40 hL
  obtain ⟨W, L, T0, R, ⟨g1, g2, g3, g4, g5, -⟩, ⟨q1, -⟩, hf⟩ := h
  refine sC_isCall (a := (tI τ 6).toNat) T0 R (by rw [show fI w 9 p = tI τ 6 from q1]; omega) (by have : tI τ 1 = tI τ 1 := rfl; omega) k1 ?_
  have e1 : (if bt τ k = 40 then (1 : Int) else 0) = ff_isSign 40 τ' := by
    by_cases z : bt τ k = 40
    · rw [if_pos z]; exact (ff_s1 (k2.mp z)).symm
    · rw [if_neg z]; exact (ff_s0 (fun y => z (k2.mpr y))).symm
  rw [e1]
  exact hQ
/-- next of both, and what the component peeks at before -/
theorem nxP {d e : Nat} {S S' : List Nat} {T : List Nat} (h : RB p w τ) (h0 : tI τ 3 ≠ 0) (hS : ∀ f, f ∈ [9, 10, 11, 12, 13, 14] → f ∈ S) (hS' : ∀ f, f ∈ [2, 3, 4, 5, 6] → f ∈ S') (hR : Rm 100 w τ) : ∃ w' τ', CF p T S S' w τ w' τ' ∧ pot w' τ' ≤ pot w τ + (-5900) ∧ (∀ Q, Q (.inl (some (ai (ff_isSign 40 τ')))) w → wpC p (d + 2) 40 [ar p] w Q) ∧ (∀ Q, Q (.inl none) τ' → wpT (e + 4) 4 [] τ Q) ∧ ((RB p w' τ' ∧ ∀ Q, Q (.inl none) w' → wpC p (d + 12) 4 [ar p] w Q) ∨ (∃ h pl x, Wr w' x h pl ∧ Dd h pl τ' ∧ ∀ Q, Q (.inr x) w' → wpC p (d + 12) 4 [ar p] w Q)) := by
  obtain ⟨w', τ', a, c, hL, f, g⟩ := nxL (d := d) (e := e) (T := T) (S := S) (S' := S') h h0 hS hS' hR
  exact ⟨w', τ', a, c, fun Q hQ => peekL h hL hQ, f, g⟩
end ZPeek
