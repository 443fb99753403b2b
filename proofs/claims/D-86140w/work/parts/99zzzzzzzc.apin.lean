/-! function, node: both -/
section ZApin
variable {p b e d f F n lo wy base lt : Nat} {w wS : CW} {τ σ ρ τ0 : TW} {rs : List (Nat × Nat)} {ps : List Pa} {ro : Nat × Nat → Nat}
theorem sC_isNode {x1 x2 : Int} (h : INV p w τ) {Q : ZRes → CW → Prop} (h1 : ∀ f i : Nat, x1 = f → x2 = i → f < nF τ → TXB p w τ → (i : Int) < tA τ 77 f → ff_isFunction x1 τ = 1 → Q (.inl (some (ai 1))) w) (h0 : (ff_isFunction x1 τ = 0 ∨ (ff_isFunction x1 τ = 1 ∧ ff_in x2 0 (w32 (tA τ 77 x1 - 1)) τ = 0)) → Q (.inl (some (ai 0))) w) : wpC p (d + 250) 53 [ar p, ai x1, ai x2] w Q := by
  refine wC_X0_isNode (Nat.zero_le _) (bC_X0_isNode_0 (sC_isFn (d := d + 247) h (fun f hf hfn hB h22 e1 => br0 (by decide) ?_) (fun e0 => br1 rfl (bC_X0_isNode_36 (bC_X0_isNode_37 ⟨Or.inl rfl, h0 (Or.inl e0)⟩)))))
  obtain ⟨q1, q2, q3, q4⟩ := hB.fob hfn
  obtain ⟨A, lo, ps, ro, ru, lt, τ0, wy, hL, ⟨⟨hC1, hC2⟩, hlt⟩, hT, -⟩ := hB.2.2.1 f hfn
  subst hf
  have q2' : aR w (fR w 5 p) (f : Int) = fnr w p f := q2
  refine ⟨q1, ?_⟩
  rw [q2']
  refine ⟨by rw [q3]; decide, nd_tag hC2.1.2.1, ?_⟩
  refine sC_many (d := d + 128) 121 _ _ _ hC2 (by decide) (by have := hT.2.2.2; omega) _ ?_
  refine sC_isIn (τ := τ) (d := d + 248) ?_
  have e77 := hT.1.1
  rw [← e77]
  have hb := hT.2.2.2
  have hp : 1 ≤ tsz τ0 (rowsK τ0 f 0 (rk τ f)) wy 121 [] := tsz_pos
  by_cases z : ff_in x2 0 (w32 (tA τ 77 f - 1)) τ = 0
  · rw [z]
    exact br1 rfl (bC_X0_isNode_36 (bC_X0_isNode_37 ⟨Or.inl rfl, h0 (Or.inr ⟨e1, z⟩)⟩))
  · have z' : 0 ≤ x2 ∧ x2 ≤ w32 (tA τ 77 f - 1) := by
      by_cases q : 0 ≤ x2 ∧ x2 ≤ w32 (tA τ 77 f - 1)
      · exact q
      · exact absurd (ff_in_0 q) z
    rw [ff_in_1 z']
    rw [w32_s (by omega) (by omega)] at z'
    obtain ⟨i, hi⟩ : ∃ i : Nat, x2 = i := ⟨x2.toNat, by omega⟩
    exact br0 (by decide) (bC_X0_isNode_37 ⟨Or.inr rfl, h1 f i rfl hi hfn hB (by omega) e1⟩)
theorem shr8 (c j : Nat) (hj : j < 7) (hc : c < 100000000) : i_shr ((8 * c + j + 1 : Nat) : Int) 3 = (c : Nat) := by
  rw [i_shr3 (by omega), show (8 * c + j + 1) / 8 = c by omega]
theorem cod_7 {π : Pa} (h : okP π) (hl : π.length ≤ 7) : cod π < 2097152 := by
  have h1 := cod_lt h
  have h2 : 8 ^ π.length ≤ 8 ^ 7 := Nat.pow_le_pow_right (by decide) hl
  have h3 : 8 ^ 7 = 2097152 := by decide
  omega
/-- how many steps a place lies above the columns -/
theorem sT_plen {π : Pa} (h : okP π) (hl : π.length ≤ 7) : ∀ (c : Nat) (I : Int → Int → TW → Prop) (K : Int → TW → Prop), (∀ (x5 x6 : Int) (w : TW), ((x6 ≤ 0 → K x5 w) ∧ (¬ (x6 ≤ 0) → ∀ x5_35 : Int, x5_35 = w32 (x5 + 1) → ∀ x6_36 : Int, x6_36 = i_shr x6 3 → I x5_35 x6_36 w)) → I x5 x6 w) → c + π.length ≤ 100 → K ((c + π.length : Nat) : Int) τ → I (c : Int) ((cod π : Nat) : Int) τ := by
  induction π with
  | nil =>
    intro c I K hI _ hK
    exact hI _ _ _ ⟨fun _ => hK, fun y => absurd (Int.le_refl _) y⟩
  | cons s π ih =>
    obtain ⟨k, j⟩ := s
    intro c I K hI hc hK
    have hj : j < 7 := h (k, j) (List.mem_cons_self ..)
    have hl' : π.length + 1 ≤ 7 := hl
    refine hI _ _ _ ⟨fun y => ?_, fun _ => fa (fa ?_)⟩
    · have : cod ((k, j) :: π) = 8 * cod π + j + 1 := rfl
      omega
    · have hb := cod_7 (π := π) (fun x hx => h x (List.mem_cons_of_mem _ hx)) (by omega)
      have e : i_shr ((cod ((k, j) :: π) : Nat) : Int) 3 = (cod π : Nat) := shr8 (cod π) j hj (by omega)
      rw [e, w32_k (by omega)]
      refine ih (fun x hx => h x (List.mem_cons_of_mem _ hx)) (by omega) (c + 1) I K hI (by simp only [List.length_cons] at hc; omega) ?_
      rw [show c + 1 + π.length = c + ((k, j) :: π).length by simp only [List.length_cons]; omega]
      exact hK
end ZApin
