/-! sums of a guard: what both have in common -/
section ZSumN
variable {p d e : Nat} {w : CW} {τ : TW}
/-- a wrong token at a term -/
theorem dd_term {h pl : Int} {t : Nat} (D : Dd h pl τ) (h7 : tI τ 7 = 0) : ∃ τ', (FT [7, 8] τ τ' ∧ Dd h pl τ' ∧ tI τ' 7 ≠ 0) ∧ ∀ Q : TW → Prop, Q τ' → wpT (e + 7) 40 [ai t] τ (zqV Q zno) := by
  have hs : tI τ 3 = 7 := by
    rcases D with ⟨a, b, c⟩ | ⟨a, b, c, q, -⟩
    · omega
    · exact b
  have hs' : tI τ 3 = 7 := hs
  obtain ⟨τ1, ⟨a1, b1, d1⟩, r1⟩ := dd_stop (d := e + 4) (k := 2) D (by decide)
  have h45 : ff_isSign 45 τ = 0 := ff_s0 (fun y => by omega)
  exact ⟨τ1, ⟨a1, b1, d1⟩, fun Q hQ => wT_readTerm (by omega) ⟨fun y => by omega, fun _ => ⟨fun y => by
    exfalso
    rcases y with y | y
    · omega
    · exact y h45, fun _ => r1 _ hQ⟩⟩⟩
/-- the signs of sums -/
abbrev isOp (c : Int) : Prop := c = 43 ∨ c = 45 ∨ c = 42 ∨ c = 47 ∨ c = 37
theorem isOp_lit (c : Int) (h : 1 ≤ c ∧ c ≤ 127) : (∃ i : Nat, i < [43,45,42,47,(37 : Int)].length ∧ [43,45,42,47,(37 : Int)].getD i 0 = c) ↔ isOp c := by
  have fin : ∀ k : Fin 128, (decide (∃ i : Fin 5, [43,45,42,47,(37 : Int)].getD i.val 0 = (k.val : Int))) = decide (isOp (k.val : Int)) := by decide +kernel
  have hk := fin ⟨c.toNat, by omega⟩
  have e : ((c.toNat : Nat) : Int) = c := by omega
  simp only [e] at hk
  constructor
  · rintro ⟨i, hi, h2⟩
    exact (decide_eq_decide.mp hk).mp ⟨⟨i, hi⟩, h2⟩
  · intro h
    obtain ⟨i, h2⟩ := (decide_eq_decide.mp hk).mpr h
    exact ⟨i.val, i.isLt, h2⟩
/-- the reference asks the signs one by one -/
theorem isOp_ff (τ : TW) : (¬ ((ff_isSign 43 τ) = 0) ∨ (¬ ((ff_isSign 45 τ) = 0) ∨ (¬ ((ff_isSign 42 τ) = 0) ∨ (¬ ((ff_isSign 47 τ) = 0) ∨ (¬ ((ff_isSign 37 τ) = 0)))))) ↔ (tI τ 3 = 5 ∧ isOp (tI τ 4)) := by
  have hx : ∀ c : Int, ¬ (ff_isSign c τ = 0) ↔ (tI τ 3 = 5 ∧ tI τ 4 = c) := by
    intro c
    by_cases z : tI τ 3 = 5 ∧ tI τ 4 = c
    · rw [ff_s1 z]; exact ⟨fun _ => z, fun _ => by decide⟩
    · rw [ff_s0 z]; exact ⟨fun y => absurd rfl y, fun y => absurd y z⟩
  rw [hx, hx, hx, hx, hx]
  constructor
  · rintro (⟨a, b⟩ | ⟨a, b⟩ | ⟨a, b⟩ | ⟨a, b⟩ | ⟨a, b⟩) <;> exact ⟨a, by unfold isOp; omega⟩
  · rintro ⟨a, b | b | b | b | b⟩
    · exact Or.inl ⟨a, b⟩
    · exact Or.inr (Or.inl ⟨a, b⟩)
    · exact Or.inr (Or.inr (Or.inl ⟨a, b⟩))
    · exact Or.inr (Or.inr (Or.inr (Or.inl ⟨a, b⟩)))
    · exact Or.inr (Or.inr (Or.inr (Or.inr ⟨a, b⟩)))
/-- the component's sign at hand is one of them, as the reference's is -/
theorem RB.op (h : RB p w τ) (h5 : tI τ 3 = 5) : 1 ≤ fI w 14 p ∧ fI w 14 p ≤ 127 ∧ (isOp (fI w 14 p) ↔ isOp (tI τ 4)) ∧ (isOp (tI τ 4) → fI w 14 p = tI τ 4) := by
  have q6 := h.2.2.2.2.2.1.2.2.2.2.2 h5
  rcases q6 with ⟨x, y⟩ | ⟨x, y⟩
  · rw [y, x]
    refine ⟨by decide, by decide, ⟨fun z => ?_, fun z => ?_⟩, fun z => ?_⟩ <;> (unfold isOp at z; omega)
  · rw [y]
    refine ⟨?_, ?_, Iff.rfl, fun _ => rfl⟩ <;> (unfold isSg at x; omega)
theorem sC_opIdx (h : RB p w τ) (h5 : tI τ 3 = 5) {Q : ZRes → CW → Prop} (hQ : ∀ v : Int, (v < 0 ↔ ¬ isOp (tI τ 4)) → Q (.inl (some (ai v))) w) : wpC p (d + 5) 231 [ar (sr w 14), ai (fI w 14 p)] w Q := by
  obtain ⟨a1, a2, a3, a4⟩ := h.op h5
  obtain ⟨l1, -, -⟩ := h.2.1 14 _ rfl
  refine sJ_indexOf l1 (litL_ascii 14 _ rfl) ⟨by omega, a2⟩ (fun v hv => hQ v ?_)
  rw [hv, isOp_lit _ ⟨a1, a2⟩, a3]
end ZSumN
