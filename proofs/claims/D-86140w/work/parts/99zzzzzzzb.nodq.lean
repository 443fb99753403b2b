/-! what is asked of a node: both -/
section ZNodq
variable {p b e d f F n lo wy base lt : Nat} {w wS : CW} {τ σ ρ τ0 : TW} {rs : List (Nat × Nat)} {ps : List Pa} {ro : Nat × Nat → Nat}
theorem sC_nwhat {r : Nat} (h : 19 ≤ tg w r ∧ tg w r ≤ 25) {Q : ZRes → CW → Prop} (hQ : Q (.inl (some (ai ((tg w r : Nat) - 19 : Int)))) w) : wpC p (d + 1) (vm2 (tg w r)) [ar r] w Q := by
  rcases nd_tag h with q | q | q | q | q | q | q <;> rw [q] at hQ ⊢
  · exact wC_X21_what (Nat.zero_le _) (bC_X21_what_0 hQ)
  · exact wC_X23_what (Nat.zero_le _) (bC_X23_what_0 hQ)
  · exact wC_X24_what (Nat.zero_le _) (bC_X24_what_0 hQ)
  · exact wC_X26_what (Nat.zero_le _) (bC_X26_what_0 hQ)
  · exact wC_X27_what (Nat.zero_le _) (bC_X27_what_0 hQ)
  · exact wC_X28_what (Nat.zero_le _) (bC_X28_what_0 hQ)
  · exact wC_X29_what (Nat.zero_le _) (bC_X29_what_0 hQ)
theorem sC_nrule {r : Nat} (h : 19 ≤ tg w r ∧ tg w r ≤ 25) (h14 : tg w r = 20 ∨ tg w r = 21 → tg w (fR w 108 r) = 14) {Q : ZRes → CW → Prop} (hQ : Q (.inl (some (ar (if tg w r = 20 ∨ tg w r = 21 then fR w 80 (fR w 108 r) else 0)))) w) : wpC p (d + 1) (vm3 (tg w r)) [ar r] w Q := by
  rcases nd_tag h with q | q | q | q | q | q | q
  · rw [if_neg (by omega)] at hQ; rw [q]; exact wC_X21_rule (Nat.zero_le _) (bC_X21_rule_0 hQ)
  · rw [if_pos (by omega)] at hQ; have t := h14 (by omega); rw [q]; exact wC_X23_rule (Nat.zero_le _) (bC_X23_rule_0 ⟨by rw [q]; decide, by rw [t]; decide, hQ⟩)
  · rw [if_pos (by omega)] at hQ; have t := h14 (by omega); rw [q]; exact wC_X23_rule (Nat.zero_le _) (bC_X23_rule_0 ⟨by rw [q]; decide, by rw [t]; decide, hQ⟩)
  · rw [if_neg (by omega)] at hQ; rw [q]; exact wC_X21_rule (Nat.zero_le _) (bC_X21_rule_0 hQ)
  · rw [if_neg (by omega)] at hQ; rw [q]; exact wC_X21_rule (Nat.zero_le _) (bC_X21_rule_0 hQ)
  · rw [if_neg (by omega)] at hQ; rw [q]; exact wC_X21_rule (Nat.zero_le _) (bC_X21_rule_0 hQ)
  · rw [if_neg (by omega)] at hQ; rw [q]; exact wC_X21_rule (Nat.zero_le _) (bC_X21_rule_0 hQ)
theorem sC_nplace {r : Nat} (h : 19 ≤ tg w r ∧ tg w r ≤ 25) {Q : ZRes → CW → Prop} (hQ : Q (.inl (some (ar (if 22 ≤ tg w r then fR w 109 r else 0)))) w) : wpC p (d + 1) (vm1 (tg w r)) [ar r] w Q := by
  rcases nd_tag h with q | q | q | q | q | q | q
  · rw [if_neg (by omega)] at hQ; rw [q]; exact wC_X21_place (Nat.zero_le _) (bC_X21_place_0 hQ)
  · rw [if_neg (by omega)] at hQ; rw [q]; exact wC_X21_place (Nat.zero_le _) (bC_X21_place_0 hQ)
  · rw [if_neg (by omega)] at hQ; rw [q]; exact wC_X21_place (Nat.zero_le _) (bC_X21_place_0 hQ)
  · rw [if_pos (by omega)] at hQ; rw [q]; exact wC_X25_place (Nat.zero_le _) (bC_X25_place_0 ⟨by rw [q]; decide, hQ⟩)
  · rw [if_pos (by omega)] at hQ; rw [q]; exact wC_X25_place (Nat.zero_le _) (bC_X25_place_0 ⟨by rw [q]; decide, hQ⟩)
  · rw [if_pos (by omega)] at hQ; rw [q]; exact wC_X25_place (Nat.zero_le _) (bC_X25_place_0 ⟨by rw [q]; decide, hQ⟩)
  · rw [if_pos (by omega)] at hQ; rw [q]; exact wC_X25_place (Nat.zero_le _) (bC_X25_place_0 ⟨by rw [q]; decide, hQ⟩)
theorem ndE_in {P : Sp} {x : Nat × Nat} (h : ndE τ rs P = some x) : x ∈ rs ∧ liv τ P x := by
  unfold ndE rws at h
  exact mem_fil.mp (List.mem_of_mem_head? (by rw [h]; rfl : x ∈ (fil (liv τ P) rs).head?))
/-- a node of both -/
theorem nd_both {P : Sp} {r x : Nat} (hC : CX τ f rs) (hS : SPRs τ f rs) (h : NDC p wS w τ f F ps rs ro wy lt P r) (k : NDR τ σ rs wy P x) : tA σ 84 x = ((chd τ rs wy P).length : Nat) ∧
    ((tg w r = 19 ∧ tA σ 80 x = 0 ∧ tA σ 81 x = -4 ∧ tA σ 83 x = -4 ∧ ndE τ rs P = none) ∨
     (∃ y, y ∈ rs ∧ ndE τ rs P = some y ∧ ((tg w r = 20 ∧ tA σ 80 x = 1) ∨ (tg w r = 21 ∧ tA σ 80 x = 2)) ∧ fR w 108 r = ro y ∧ tA σ 81 x = (y.1 : Nat) ∧ tA σ 83 x = -4) ∨
     (∃ y e, y ∈ rs ∧ e ∈ tsR τ y.1 y.2 ∧ ndE τ rs P = some y ∧ (22 ≤ tg w r ∧ tg w r ≤ 25 ∧ tA σ 80 x = (tg w r : Nat) - 19) ∧ fR w 109 r = plo wS F ps e.1 ∧ tA σ 81 x = -4 ∧ tA σ 83 x = (cod e.1 : Nat))) := by
  obtain ⟨k84, k⟩ := k
  refine ⟨k84, ?_⟩
  cases hn : ndE τ rs P with
  | none =>
    rw [hn] at k
    exact Or.inl ⟨h.1 hn, k.1, k.2.1, k.2.2, rfl⟩
  | some y =>
    rw [hn] at k
    simp only at k
    have hy := (ndE_in hn).1
    cases hc : chs τ wy P (rws τ rs P) (ask τ P y) with
    | none =>
      rw [hc] at k
      simp only at k
      obtain ⟨t1, t2⟩ := (h.2 y hn).1 hc
      refine Or.inr (Or.inl ⟨y, hy, rfl, ?_, t2, k.2.1, k.2.2.2⟩)
      by_cases z : tA τ 53 (y.1 : Nat) = 0
      · rw [if_pos z] at t1; rw [if_pos z] at k; exact Or.inl ⟨t1, k.1⟩
      · rw [if_neg z] at t1; rw [if_neg z] at k; exact Or.inr ⟨t1, k.1⟩
    | some e =>
      rw [hc] at k
      simp only at k
      obtain ⟨t1, t2, t3, t4, t5⟩ := (h.2 y hn).2 e hc
      have he : e ∈ tsR τ y.1 y.2 := (mem_fil.mp (chs_in hc)).1
      have s0 := (hS y hy e he).1
      have s1 := (hC.t hy he).2.2.2.1
      have kk := k.1
      unfold knd at kk
      refine Or.inr (Or.inr ⟨y, e, hy, he, rfl, ?_, t1, k.2.1, k.2.2⟩)
      rw [s1] at kk
      by_cases z3 : 3 ≤ srP τ f e.1
      · have := (t2 z3).1; rw [if_neg (by omega)] at kk; omega
      · rw [if_pos (by omega)] at kk
        by_cases z1 : srP τ f e.1 = 1
        · have := t3 z1; rw [if_pos z1] at kk; omega
        · rw [if_neg z1] at kk
          by_cases z2 : srP τ f e.1 = 2
          · have := (t4 z2).1; rw [if_pos z2] at kk; omega
          · have := (t5 (by omega)).1; rw [if_neg z2] at kk; omega
end ZNodq
