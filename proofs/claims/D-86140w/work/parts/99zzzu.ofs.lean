/-! whether a value is of a sort: both -/
section ZOfs
variable {p b e d : Nat} {w : CW} {τ : TW}
noncomputable def ofI (τ : TW) (v : Nat) (s : Int) : Int := @ite _ (ofS τ v s) (Classical.propDecidable _) 1 0
theorem ofI_1 {v : Nat} {s : Int} (h : ofS τ v s) : ofI τ v s = 1 := by unfold ofI; rw [if_pos h]
theorem ofI_0 {v : Nat} {s : Int} (h : ¬ ofS τ v s) : ofI τ v s = 0 := by unfold ofI; rw [if_neg h]
theorem zca_nothing : zca 26 "LetterPost$Nothing" = false ∧ zca 27 "LetterPost$Nothing" = false ∧ zca 28 "LetterPost$Nothing" = false ∧ zca 29 "LetterPost$Nothing" = true ∧ zca 30 "LetterPost$Nothing" = true := by decide
theorem znc_nothing : znc 26 "LetterPost$Nothing" = true ∧ znc 27 "LetterPost$Nothing" = true ∧ znc 28 "LetterPost$Nothing" = true := by decide
theorem sC_isOfV {v r : Nat} {s : Int} (h : VR p w τ v r) (hK : KR p w τ) (W : WF p w) (h0 : 0 ≤ s) (h1 : s < 3 + nK τ) {Q : ZRes → CW → Prop} (hQ : Q (.inl (some (ai (ofI τ v s)))) w) : wpC p (d + 2) 64 [ar p, ar r, ai s] w Q := by
  obtain ⟨c1, c2, c3, c4, c5⟩ := zca_nothing
  obtain ⟨n1, n2, n3⟩ := znc_nothing
  refine wC_X0_isOf (Nat.zero_le _) (bC_X0_isOf_0 ?_)
  by_cases s3 : 3 ≤ s
  · have no : tg w r = 26 ∨ tg w r = 27 ∨ tg w r = 28 → tA τ 110 v ≠ 3 → tA τ 110 v ≠ 4 → ((r = 0 ∨ zca (tg w r) "LetterPost$Nothing" = true ∨ znc (tg w r) "LetterPost$Nothing" = true) ∧ zca (tg w r) "LetterPost$Nothing" = false) ∧ Q (.inl (some (ai 0))) w := by
      intro ht a3 a4
      refine ⟨?_, ?_⟩
      · rcases ht with q | q | q <;> rw [q]
        · exact ⟨Or.inr (Or.inr n1), c1⟩
        · exact ⟨Or.inr (Or.inr n2), c2⟩
        · exact ⟨Or.inr (Or.inr n3), c3⟩
      · rw [ofI_0 (fun q => by
          rcases q with q | q
          · omega
          · rcases q.2 with u | u
            · exact a3 u
            · exact a4 u.1)] at hQ
        exact hQ
    refine br1 s3 ?_
    rcases h.2 with q | q | q | q | ⟨q1, q2, q3, k, m, k1, k2, k3, -⟩
    · obtain ⟨⟨y1, y2⟩, y3⟩ := no (Or.inl q.2.1) (by omega) (by omega)
      exact ⟨y1, br0 (by rw [y2]; decide) (bC_X0_isOf_52 (call := wpC p (d + 1)) (bC_X0_isOf_53 ⟨Or.inl rfl, y3⟩))⟩
    · obtain ⟨⟨y1, y2⟩, y3⟩ := no (Or.inr (Or.inl q.2.1)) (by omega) (by omega)
      exact ⟨y1, br0 (by rw [y2]; decide) (bC_X0_isOf_52 (call := wpC p (d + 1)) (bC_X0_isOf_53 ⟨Or.inl rfl, y3⟩))⟩
    · obtain ⟨⟨y1, y2⟩, y3⟩ := no (Or.inr (Or.inr q.2.1)) (by omega) (by omega)
      exact ⟨y1, br0 (by rw [y2]; decide) (bC_X0_isOf_52 (call := wpC p (d + 1)) (bC_X0_isOf_53 ⟨Or.inl rfl, y3⟩))⟩
    · rw [ofI_1 (Or.inr ⟨s3, Or.inl q.1⟩)] at hQ
      rw [q.2.1]
      refine ⟨Or.inr (Or.inl c4), br1 c4 ?_⟩
      exact wC_X30_kind (Nat.zero_le _) (br1 rfl (bC_X0_isOf_48 (call := wpC p (d + 1)) (bC_X0_isOf_53 ⟨Or.inr rfl, hQ⟩)))
    · have kl := hK.2.2.2.2.1 k k2
      have hne : kd w p k ≠ 0 := by have := kl.2.1; omega
      obtain ⟨o, ho⟩ : ∃ o : Nat, s = 3 + (o : Int) := ⟨(s - 3).toNat, by omega⟩
      have ho2 : o < nK τ := by omega
      have eo : s - 3 = (o : Int) := by omega
      have iff1 : ofS τ v s ↔ ofT τ k o := by
        unfold ofS
        rw [k1, eo]
        constructor
        · intro q
          rcases q with q | q
          · omega
          · rcases q.2 with u | u
            · omega
            · exact u.2
        · intro q
          exact Or.inr ⟨s3, Or.inr ⟨q1, q⟩⟩
      rw [q2]
      refine ⟨Or.inr (Or.inl c5), br1 c5 ?_⟩
      refine wC_X35_kind (Nat.zero_le _) (bC_X35_kind_0 ⟨by rw [q2]; decide, ?_⟩)
      rw [k3]
      refine br0 hne ?_
      rw [q2]
      refine wC_X35_kind (Nat.zero_le _) (bC_X35_kind_0 ⟨by rw [q2]; decide, ?_⟩)
      rw [k3]
      refine sC_kindOf hK ho ho2 ⟨kl.1, sC_is hK W k2 ho2 ?_⟩
      by_cases z : ofT τ k o
      · rw [ofI_1 (iff1.mpr z)] at hQ
        rw [ofB_1 z]
        exact br0 (by decide) (bC_X0_isOf_48 (call := wpC p (d + 1)) (bC_X0_isOf_53 ⟨Or.inr rfl, hQ⟩))
      · rw [ofI_0 (fun q => z (iff1.mp q))] at hQ
        rw [ofB_0 z]
        exact br1 rfl (bC_X0_isOf_52 (call := wpC p (d + 1)) (bC_X0_isOf_53 ⟨Or.inl rfl, hQ⟩))
  · refine br0 s3 (sC_what h (fa ?_))
    by_cases z : tA τ 110 v = s
    · rw [if_pos z]
      rw [ofI_1 (Or.inl ⟨by omega, z⟩)] at hQ
      exact hQ
    · rw [if_neg z]
      rw [ofI_0 (fun q => by
        rcases q with q | q
        · exact z q.2
        · omega)] at hQ
      exact hQ
theorem sT_isOfSort {v r : Nat} {s : Int} (h : VR p w τ v r) (hv : v < 160) (hK : KR p w τ) (h0 : 0 ≤ s) (h1 : s < 3 + nK τ) {Q : ZRes → TW → Prop} (hQ : Q (.inl (some (ai (ofI τ v s)))) τ) : wpT (d + 2) 85 [ai v, ai s] τ Q := by
  refine wT_isOfSort (by omega) (bT_isOfSort_0 ?_)
  by_cases s3 : 3 ≤ s
  · refine br1 s3 ⟨by omega, ?_⟩
    by_cases a3 : tA τ 110 v = 3
    · rw [ofI_1 (Or.inr ⟨s3, Or.inl a3⟩)] at hQ
      exact br1 a3 (bT_isOfSort_57 (call := wpT (d + 1)) (bT_isOfSort_62 ⟨Or.inr rfl, hQ⟩))
    · refine br0 a3 ⟨by omega, ?_⟩
      by_cases a4 : tA τ 110 v = 4
      · obtain ⟨k, k1, k2⟩ : ∃ k : Nat, tA τ 111 v = k ∧ k < nK τ := by
          rcases h.2 with q | q | q | q | ⟨q1, q2, q3, k, m, k1, k2, -⟩
          · omega
          · omega
          · omega
          · omega
          · exact ⟨k, k1, k2⟩
        obtain ⟨o, ho⟩ : ∃ o : Nat, s - 3 = (o : Int) := ⟨(s - 3).toNat, by omega⟩
        have k24 : nK τ ≤ 24 := by have := hK.2.2.2.1; unfold nK; omega
        have iff1 : ofS τ v s ↔ ofT τ k o := by
          unfold ofS
          rw [k1, ho]
          constructor
          · intro q
            rcases q with q | q
            · omega
            · rcases q.2 with u | u
              · omega
              · exact u.2
          · intro q
            exact Or.inr ⟨s3, Or.inr ⟨a4, q⟩⟩
        refine br1 a4 ⟨by omega, ?_⟩
        rw [w32_s (by omega) (by omega), ho, k1]
        refine sT_isOf hK.un k2 ?_
        by_cases z : ofT τ k o
        · rw [ofI_1 (iff1.mpr z)] at hQ
          rw [ofB_1 z]
          exact br0 (by decide) (bT_isOfSort_57 (call := wpT (d + 1)) (bT_isOfSort_62 ⟨Or.inr rfl, hQ⟩))
        · rw [ofI_0 (fun q => z (iff1.mp q))] at hQ
          rw [ofB_0 z]
          exact br1 rfl (bT_isOfSort_61 (call := wpT (d + 1)) (bT_isOfSort_62 ⟨Or.inl rfl, hQ⟩))
      · rw [ofI_0 (fun q => by
          rcases q with q | q
          · omega
          · rcases q.2 with u | u
            · exact a3 u
            · exact a4 u.1)] at hQ
        exact br0 a4 (bT_isOfSort_61 (call := wpT (d + 1)) (bT_isOfSort_62 ⟨Or.inl rfl, hQ⟩))
  · refine br0 s3 ⟨by omega, fa ?_⟩
    by_cases z : tA τ 110 v = s
    · rw [if_pos z]
      rw [ofI_1 (Or.inl ⟨by omega, z⟩)] at hQ
      exact hQ
    · rw [if_neg z]
      rw [ofI_0 (fun q => by
        rcases q with q | q
        · exact z q.2
        · omega)] at hQ
      exact hQ
end ZOfs
