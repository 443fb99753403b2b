/-! value: both -/
section ZValue
variable {p b e d : Nat} {w : CW} {τ : TW}
theorem zca_letter : zca 26 "LetterPost$Letter" = false ∧ zca 27 "LetterPost$Letter" = false ∧ zca 28 "LetterPost$Letter" = false ∧ zca 29 "LetterPost$Letter" = false ∧ zca 30 "LetterPost$Letter" = true := by decide
theorem znc_letter : znc 26 "LetterPost$Letter" = true ∧ znc 27 "LetterPost$Letter" = true ∧ znc 28 "LetterPost$Letter" = true ∧ znc 29 "LetterPost$Letter" = true := by decide
theorem sC_what {v r : Nat} (h : VR p w τ v r) {Q : ZRes → CW → Prop} (hQ : Q (.inl (some (ai (tA τ 110 v)))) w) : wpC p (d + 1) (vm5 (tg w r)) [ar r] w Q := by
  obtain ⟨-, h⟩ := h
  rcases h with ⟨h1, h2, -⟩ | ⟨h1, h2, -⟩ | ⟨h1, h2, -⟩ | ⟨h1, h2, -⟩ | ⟨h1, h2, -⟩ <;> rw [h1] at hQ <;> rw [h2]
  · exact wC_X31_what (Nat.zero_le _) hQ
  · exact wC_X32_what (Nat.zero_le _) hQ
  · exact wC_X33_what (Nat.zero_le _) hQ
  · exact wC_X34_what (Nat.zero_le _) hQ
  · exact wC_X35_what (Nat.zero_le _) hQ
theorem sC_told {v r : Nat} (h : VR p w τ v r) (hK : KR p w τ) {Q : ZRes → CW → Prop} (hQ : Q (.inl (some (ai (tA τ 111 v)))) w) : wpC p (d + 1) (vm6 (tg w r)) [ar r] w Q := by
  obtain ⟨-, h⟩ := h
  rcases h with ⟨h1, h2, h3, -⟩ | ⟨h1, h2, h3, -⟩ | ⟨h1, h2, h3, ⟨h4, h5, h6, h7⟩, -⟩ | ⟨h1, h2, h3, -⟩ | ⟨h1, h2, h3, k, m, k1, k2, k3, -⟩
  · rw [show vm6 (tg w r) = 188 by rw [h2]; rfl]
    refine wC_X31_told (Nat.zero_le _) ⟨by rw [h2]; decide, ?_⟩
    rw [h3]; exact hQ
  · rw [show vm6 (tg w r) = 188 by rw [h2]; rfl]
    refine wC_X31_told (Nat.zero_le _) ⟨by rw [h2]; decide, ?_⟩
    rw [h3]; exact hQ
  · rw [show vm6 (tg w r) = 194 by rw [h2]; rfl]
    rw [h4] at hQ
    exact sC_toldT h2 h3 h6 h7 h5 hQ
  · rw [show vm6 (tg w r) = 185 by rw [h2]; rfl]
    rw [h3] at hQ
    exact wC_X30_told (Nat.zero_le _) hQ
  · rw [show vm6 (tg w r) = 202 by rw [h2]; rfl]
    have kl := hK.2.2.2.2.1 k k2
    have k37 : fI w 37 (kd w p k) = k := kl.2.2.1
    refine wC_X35_told (Nat.zero_le _) ⟨by rw [h2]; decide, by rw [k3, kl.1]; decide, ?_⟩
    rw [k3, k37, ← k1]
    exact hQ
theorem sC_isValue {x : Int} (hV : VAL p w τ) {Q : ZRes → CW → Prop} (h1 : ∀ v : Nat, x = v → v < nV τ → Q (.inl (some (ai 1))) w) (h0 : ¬ (0 ≤ x ∧ x < tI τ 109) → Q (.inl (some (ai 0))) w) : wpC p (d + 2) 63 [ar p, ai x] w Q := by
  have b1 : fI w 4 p = tI τ 109 := hV.2.1
  have b2 := hV.2.2.1
  have b3 := hV.2.2.2.1
  refine wC_X0_isValue (Nat.zero_le _) (bC_X0_isValue_0 (wC_X0_isIn (Nat.zero_le _) (fa ?_)))
  rw [b1, w32_s (by omega) (by omega)]
  by_cases z : 0 ≤ x ∧ x < tI τ 109
  · rw [if_pos (by omega)]
    obtain ⟨v, hv⟩ : ∃ v : Nat, x = v := ⟨x.toNat, by omega⟩
    exact ⟨Or.inr rfl, h1 v hv (by unfold nV; omega)⟩
  · rw [if_neg (by omega)]
    exact ⟨Or.inl rfl, h0 z⟩
theorem api_value {x y : Int} (hV : VAL p w τ) (hK : KR p w τ) {K : Int → Int → CW → TW → Prop} (h1 : ∀ v : Int, K v v w τ) : wpC p (d + 3) 65 [ar p, ai x, ai y] w (zqI (fun v w' => wpT (e + 3) 86 [ai x, ai y] τ (zqI (fun v' τ' => K v v' w' τ') zno)) zno) := by
  have b2 := hV.2.2.1
  have b3 := hV.2.2.2.1
  obtain ⟨a1, a2, a3, a4⟩ := hV.1
  have fv : ff_isValue x τ = if ¬ (x < 0) ∧ ¬ (w32 (tI τ 109 - 1) < x) then 1 else 0 := rfl
  rw [w32_s (by omega) (by omega)] at fv
  have fi : ff_in y 0 6 τ = if ¬ (y < 0) ∧ ¬ (6 < y) then 1 else 0 := rfl
  refine wC_X0_value (Nat.zero_le _) (bC_X0_value_0 (sC_isValue hV (fun v hv hvn => ?_) (fun z => ?_)))
  · subst hv
    have hr := hV.2.2.2.2 v hvn
    have hv160 : (v : Int) < 160 ∧ (v : Int) < tI τ 109 := by unfold nV at hvn; omega
    rw [if_pos (by omega)] at fv
    refine br0 (by decide) (wC_X0_isIn (Nat.zero_le _) (fa ?_))
    by_cases z : ¬ (y < 0) ∧ ¬ (6 < y)
    · rw [if_pos z] at fi ⊢
      refine br0 (by decide) ⟨⟨by rw [a1]; decide, by omega, by rw [a2]; omega⟩, fa ?_⟩
      have top : ∀ Q : Int → TW → Prop, ((y = 0 → (0 ≤ (v : Int) ∧ (v : Int) < 160) ∧ Q (tA τ 110 v) τ) ∧ (y = 1 → (0 ≤ (v : Int) ∧ (v : Int) < 160) ∧ Q (tA τ 111 v) τ) ∧ (y = 2 → (0 ≤ (v : Int) ∧ (v : Int) < 160) ∧ Q (tA τ 113 v) τ) ∧ (¬ y = 0 → ¬ y = 1 → ¬ y = 2 → (0 ≤ (v : Int) ∧ (v : Int) < 160) ∧ (((tA τ 110 v) = 4 → (0 ≤ (v : Int) ∧ (v : Int) < 160) ∧ (0 ≤ (tA τ 111 v) ∧ (tA τ 111 v) < 24) ∧ (¬ ((tA τ 14 (tA τ 111 v)) ≤ (w32 (y - 3))) → (0 ≤ (w32 ((w32 ((w32 (4 * (v : Int))) + y)) - 3)) ∧ (w32 ((w32 ((w32 (4 * (v : Int))) + y)) - 3)) < 640)))) ∧ ∀ v8 : Int, v8 = (if ((tA τ 110 v) = 4) ∧ (¬ ((tA τ 14 (tA τ 111 v)) ≤ (w32 (y - 3)))) then tA τ 114 (w32 ((w32 ((w32 (4 * (v : Int))) + y)) - 3)) else (-4)) → Q v8 τ)) → wpT (e + 3) 86 [ai v, ai y] τ (zqI Q zno) := by
        intro Q hh
        refine wT_value (by omega) (bT_value_0 (br0 (fun q => ?_) hh))
        rcases q with q | q
        · rw [fv] at q; exact absurd q (by decide)
        · rw [fi] at q; exact absurd q (by decide)
      have er : aR w (fR w 3 p) (v : Int) = vr w p v := rfl
      rw [er]
      by_cases y3 : 3 ≤ y
      · obtain ⟨i, hi⟩ : ∃ i : Nat, y - 3 = i := ⟨(y - 3).toNat, by omega⟩
        have ei : w32 (y - 3) = i := by rw [w32_s (by omega) (by omega)]; exact hi
        have ej : w32 (w32 (w32 (4 * (v : Int)) + y) - 3) = ((4 * v + i : Nat) : Int) := by
          rw [w32_s (a := 4 * (v : Int)) (by omega) (by omega), w32_s (a := 4 * (v : Int) + y) (by omega) (by omega), w32_s (by omega) (by omega)]
          omega
        obtain ⟨c1, c2, c3, c4, c5⟩ := zca_letter
        obtain ⟨n1, n2, n3, n4⟩ := znc_letter
        rw [ei, ej] at top
        rw [ei]
        by_cases t30 : tg w (vr w p v) = 30
        · obtain ⟨k, m, g1, g2, g3, g4, g5, ⟨g6, g7, g8⟩, g9, gx⟩ : ∃ k m : Nat, tA τ 111 v = k ∧ k < nK τ ∧ fR w 117 (vr w p v) = kd w p k ∧ tA τ 14 k = m ∧ m ≤ 4 ∧ (tg w (fR w 118 (vr w p v)) = 119 ∧ ln w (fR w 118 (vr w p v)) = m ∧ p + 8 < fR w 118 (vr w p v)) ∧ (∀ i : Nat, i < m → ∃ u : Nat, u < v ∧ tA τ 114 (4 * v + i : Nat) = u ∧ aR w (fR w 118 (vr w p v)) i = vr w p u) ∧ tA τ 110 v = 4 := by
            rcases hr.2 with q | q | q | q | ⟨q1, q2, q3, k, m, q4⟩
            · omega
            · omega
            · omega
            · omega
            · exact ⟨k, m, q4.1, q4.2.1, q4.2.2.1, q4.2.2.2.1, q4.2.2.2.2.1, q4.2.2.2.2.2.1, q4.2.2.2.2.2.2, q1⟩
          have k24 : nK τ ≤ 24 := by have := hK.2.2.2.1; unfold nK; omega
          rw [gx, g1, g4] at top
          rw [t30, g6, g7]
          have r113 : ∀ u : Nat, u < v → (26 ≤ tg w (vr w p u) ∧ tg w (vr w p u) ≤ 30) ∧ fI w 113 (vr w p u) = u := fun u hu => by
            have hru := hV.2.2.2.2 u (by omega)
            exact ⟨by rcases hru.2 with q | q | q | q | q <;> omega, hru.1.2.1⟩
          refine br1 y3 ⟨Or.inr (Or.inl c5), fun _ => ⟨Or.inr c5, by decide, by decide, fun hh => ⟨Or.inr c5, by decide, ⟨by decide, by omega, by omega⟩, ?_⟩⟩, fa ?_⟩
          · obtain ⟨u, u1, u2, u3⟩ := g9 i (by omega)
            rw [u3]
            obtain ⟨t1, -⟩ := r113 u u1
            have : tg w (vr w p u) = 26 ∨ tg w (vr w p u) = 27 ∨ tg w (vr w p u) = 28 ∨ tg w (vr w p u) = 29 ∨ tg w (vr w p u) = 30 := by omega
            rcases this with q | q | q | q | q <;> rw [q] <;> decide
          · by_cases im : (m : Int) ≤ i
            · rw [if_neg (fun q => q.2 im)]
              refine top _ ⟨fun q => by omega, fun q => by omega, fun q => by omega, fun _ _ _ => ⟨⟨by omega, hv160.1⟩, fun _ => ⟨⟨by omega, hv160.1⟩, ⟨by omega, by omega⟩, fun q => absurd im q⟩, fa ?_⟩⟩
              rw [if_neg (fun q => q.2 im)]
              exact h1 _
            · obtain ⟨u, u1, u2, u3⟩ := g9 i (by omega)
              rw [if_pos ⟨c5, im⟩, u3, (r113 u u1).2]
              refine top _ ⟨fun q => by omega, fun q => by omega, fun q => by omega, fun _ _ _ => ⟨⟨by omega, hv160.1⟩, fun _ => ⟨⟨by omega, hv160.1⟩, ⟨by omega, by omega⟩, fun q => by omega⟩, fa ?_⟩⟩
              rw [if_pos ⟨rfl, im⟩, u2]
              exact h1 _
        · have hz : zca (tg w (vr w p v)) "LetterPost$Letter" = false ∧ znc (tg w (vr w p v)) "LetterPost$Letter" = true ∧ ¬ (tA τ 110 v = 4) := by
            rcases hr.2 with q | q | q | q | q
            · rw [q.2.1]; exact ⟨c1, n1, by omega⟩
            · rw [q.2.1]; exact ⟨c2, n2, by omega⟩
            · rw [q.2.1]; exact ⟨c3, n3, by omega⟩
            · rw [q.2.1]; exact ⟨c4, n4, by omega⟩
            · exact absurd q.2.1 t30
          rw [hz.1, hz.2.1]
          refine br1 y3 ⟨Or.inr (Or.inr rfl), fun q => absurd q (by decide), fa ?_⟩
          rw [if_neg (fun q => absurd q.1 (by decide))]
          refine top _ ⟨fun q => by omega, fun q => by omega, fun q => by omega, fun _ _ _ => ⟨⟨by omega, hv160.1⟩, fun q => absurd q hz.2.2, fa ?_⟩⟩
          rw [if_neg (fun q => hz.2.2 q.1)]
          exact h1 _
      · refine br0 y3 ?_
        by_cases y0 : y = 0
        · exact br1 y0 (sC_what hr (top _ ⟨fun _ => ⟨⟨by omega, hv160.1⟩, h1 _⟩, fun q => by omega, fun q => by omega, fun q => absurd y0 q⟩))
        refine br0 y0 ?_
        by_cases y1 : y = 1
        · exact br1 y1 (sC_told hr hK (top _ ⟨fun q => by omega, fun _ => ⟨⟨by omega, hv160.1⟩, h1 _⟩, fun q => by omega, fun _ q => absurd y1 q⟩))
        have y2 : y = 2 := by omega
        refine br0 y1 ⟨?_, ?_⟩
        · have : tg w (vr w p v) = 26 ∨ tg w (vr w p v) = 27 ∨ tg w (vr w p v) = 28 ∨ tg w (vr w p v) = 29 ∨ tg w (vr w p v) = 30 := by
            rcases hr.2 with q | q | q | q | q <;> omega
          rcases this with q | q | q | q | q <;> rw [q] <;> decide
        · rw [hr.1.2.2.1]
          refine bC_X0_value_62 (call := wpC p (d + 2)) ?_
          exact top _ ⟨fun q => by omega, fun q => by omega, fun _ => ⟨⟨by omega, hv160.1⟩, h1 _⟩, fun _ _ q => absurd y2 q⟩
    · rw [if_neg z] at fi ⊢
      refine br1 rfl (bC_X0_value_20 ?_)
      exact wT_value (by omega) (bT_value_0 (br1 (Or.inr fi) (bT_value_20 (h1 _))))
  · rw [if_neg (by omega)] at fv
    exact br1 rfl (bC_X0_value_20 (wT_value (by omega) (bT_value_0 (br1 (Or.inl fv) (bT_value_20 (h1 _))))))
end ZValue
