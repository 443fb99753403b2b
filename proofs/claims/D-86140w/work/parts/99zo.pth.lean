/-! patterns of both, nested -/
section ZPth
variable {p b e d : Nat} {w : CW} {τ : TW}
theorem pth0 {n o : Nat} (_ : 6 ≤ o + n) (hrec : o < 6 → ∃ n', n = n' + 1 ∧ PTH p e n' (o + 1)) : PTH p e n o := by
  intro w τ s much b M hb rb h hmuch hs0 hs hR hM
  have hwi : fI w 19 p = (o : Int) := by
    have := h.2.2.2.2.2.2.2.1
    rw [fI_of _ _ _ _ (by decide)] at this
    exact this
  have hlt : much = 0 → o < 6 := by
    intro z
    rcases Nat.lt_or_ge o 6 with y | y
    · exact y
    · rw [if_pos (Or.inr (by rw [hwi]; omega))] at hmuch
      rw [z] at hmuch
      exact absurd hmuch (by decide)
  obtain ⟨m, rfl⟩ : ∃ m, M = m + 21 := ⟨M - 21, by omega⟩
  have hr2 : much = 0 → ∃ n', n = n' + 1 ∧ 3 * n' + 21 ≤ m + 18 ∧ PTH p e n' (o + 1) := fun z => by
    obtain ⟨n', e1, k⟩ := hrec (hlt z)
    exact ⟨n', e1, by omega, k⟩
  have hRR : Rm 1800 (pI w 20 p 0) τ := hR.le (by decide)
  have hRS : Rm 1000 (pI w 20 p 0) τ := hR.le (by decide)
  refine pt_pattern (M := m + 20) hb rb h hmuch (by omega) hR ?_
  have hb' : cz w ≤ cz (pI w 20 p 0) := Nat.le_refl _
  by_cases n1 : tI τ 3 = 1
  · exact pl_name (m := m + 3) h hb' n1 hRS
  by_cases n2 : tI τ 3 = 2
  · exact pl_kind h hb' n2 hs0 hs hr2 hlt hRR
  by_cases n3 : tI τ 3 = 3
  · exact pl_num (m := m + 3) h hb' (Or.inl n3) hRS
  by_cases n4 : tI τ 3 = 4
  · exact pl_text (m := m + 3) h hb' n4 hRS
  by_cases s95 : ff_isSign 95 τ = 0
  · by_cases s45 : ff_isSign 45 τ = 0
    · by_cases s40 : ff_isSign 40 τ = 0
      · by_cases w8 : ff_isWord 8 τ = 0
        · by_cases w9 : ff_isWord 9 τ = 0
          · exact pl_none (m := m + 3) h hb' n1 n2 n3 n4 s95 s45 s40 w8 w9 hRS
          · exact pl_truth (m := m + 3) h hb' (Or.inr w9) hRS
        · exact pl_truth (m := m + 3) h hb' (Or.inl w8) hRS
      · exact pl_alt h hb' s40 hs0 hs hr2 hlt hRR
    · exact pl_num (m := m + 3) h hb' (Or.inr s45) hRS
  · exact pl_any (m := m + 3) h hb' s95 hRS
theorem pth : ∀ n o, 6 ≤ o + n → PTH p e n o := by
  intro n
  induction n with
  | zero => exact fun o ho => pth0 ho (fun hlt => by omega)
  | succ n ih => exact fun o ho => pth0 ho (fun _ => ⟨n, rfl, ih (o + 1) (by omega)⟩)
end ZPth
