/-! branch: both -/
section ZApib
variable {p b e d f F n lo wy base lt : Nat} {w wS : CW} {τ σ ρ τ0 : TW} {rs : List (Nat × Nat)} {ps : List Pa} {ro : Nat × Nat → Nat}
theorem nds_sz : ∀ (m : Nat) (P : Sp) (i : Nat) (y : Nat × Sp), (nds τ rs wy m P)[i]? = some y → i + tsz τ rs wy y.1 y.2 ≤ tsz τ rs wy m P := by
  intro m
  induction m with
  | zero => intro P i y h; simp [nds] at h
  | succ m ih =>
    intro P i y hy
    have es : tsz τ rs wy (m + 1) P = 1 + ((chd τ rs wy P).map (fun x => tsz τ rs wy m x.2)).sum := rfl
    cases i with
    | zero =>
      have : (m + 1, P) = y := by simpa [nds] using hy
      subst this
      simp
    | succ i =>
      have hy' : (((chd τ rs wy P).map (fun y => nds τ rs wy m y.2)).flatten)[i]? = some y := by simpa [nds] using hy
      obtain ⟨j, x, i', h1, h2, h3⟩ := flat_idx (fun y : Br × Sp => nds τ rs wy m y.2) _ _ _ hy'
      have e : ((chd τ rs wy P).take j).map (fun x => (nds τ rs wy m x.2).length) = ((chd τ rs wy P).take j).map (fun y => tsz τ rs wy m y.2) := List.map_congr_left (fun x _ => nds_len m x.2)
      rw [e] at h2
      have h2 : i = prs τ rs wy m (chd τ rs wy P) j + i' := h2
      have ep := prs_s (τ := τ) (rs := rs) (wy := wy) (m := m) h1
      have pl := prs_le (τ := τ) (rs := rs) (wy := wy) (m := m) (cs := chd τ rs wy P) (j + 1)
      have := ih x.2 i' y h3
      omega
theorem ff_isFn_rg {x1 : Int} (h : INV p w τ) : ff_isFunction x1 τ = 0 ∨ (0 ≤ x1 ∧ x1 < 12) := by
  by_cases z : 0 ≤ x1 ∧ x1 < 12
  · exact Or.inr z
  · left
    obtain ⟨-, -, -, -, hT, -⟩ := h
    have m3 : tI τ 41 ≤ 12 ∧ 0 ≤ tI τ 41 := by
      rcases hT with ⟨-, -, ⟨-, a, b⟩, -⟩ | ⟨h22, B⟩
      · omega
      · have := B.2.1.2.2; omega
    unfold ff_isFunction
    rw [w32_s (by omega) (by omega)]
    exact ff_in_0 (by omega)
theorem api_branch {x1 x2 x3 : Int} (h : INV p w τ) {K : Int → Int → CW → TW → Prop} (h1 : ∀ v : Int, K v v w τ) : wpC p (d + 251) 54 [ar p, ai x1, ai x2, ai x3] w (zqI (fun v w' => wpT (e + 12) 75 [ai x1, ai x2, ai x3] τ (zqI (fun v' τ' => K v v' w' τ') zno)) zno) := by
  have rg := ff_isFn_rg (x1 := x1) h
  -- the reference's indices are in range
  have hidx : ¬ (ff_isFunction x1 τ = 0) → (0 ≤ x1 ∧ x1 < 13) ∧ (¬ (ff_in x2 0 (w32 (tA τ 77 x1 - 1)) τ = 0) → (0 ≤ (w32 ((w32 (300 * x1)) + x2)) ∧ (w32 ((w32 (300 * x1)) + x2)) < 3900)) := fun y => by
    have r := rg.resolve_left y
    refine ⟨by omega, fun q => ?_⟩
    have hT := h.2.2.2.2.1
    have q' : 0 ≤ x2 ∧ x2 ≤ w32 (tA τ 77 x1 - 1) := by
      by_cases z : 0 ≤ x2 ∧ x2 ≤ w32 (tA τ 77 x1 - 1)
      · exact z
      · exact absurd (ff_in_0 z) q
    have q2 : x2 ≤ 119 := by
      rcases hT with ⟨-, -, ⟨-, a, b⟩, -⟩ | ⟨h22, B⟩
      · exfalso
        apply y
        unfold ff_isFunction
        rw [b]
        exact ff_in_0 (by rw [w32_s (by omega) (by omega)]; omega)
      · obtain ⟨f, hf⟩ : ∃ f : Nat, x1 = f := ⟨x1.toNat, by omega⟩
        have hfn : f < nF τ := by
          have b6 := B.2.1.2.2.1
          have : (f : Int) < tI τ 41 := by
            by_cases z : 0 ≤ x1 ∧ x1 ≤ w32 (tI τ 41 - 1)
            · rw [w32_s (by have := B.2.1.2.2; omega) (by have := B.2.1.2.2; omega)] at z; omega
            · exact absurd (ff_in_0 z) y
          omega
        obtain ⟨A, lo, ps, ro, ru, lt, τ0, wy, -, -, hT, -⟩ := B.2.2.1 f hfn
        have := hT.1.1
        have := hT.2.2.2
        rw [hf, hT.1.1, w32_s (by omega) (by omega)] at q'
        omega
    rw [w32_s (a := 300 * x1) (by omega) (by omega), w32_s (by omega) (by omega)]
    omega
  have no : (ff_isFunction x1 τ = 0 ∨ (ff_in x2 0 (w32 (tA τ 77 x1 - 1)) τ = 0 ∨ ff_in x3 0 (w32 (tA τ 84 (w32 ((w32 (300 * x1)) + x2)) - 1)) τ = 0)) → ∀ Q : Int → TW → Prop, Q (-1) τ → wpT (e + 12) 75 [ai x1, ai x2, ai x3] τ (zqI Q zno) := fun z Q hQ => wT_branch (by omega) (bT_branch_0 ⟨hidx, br1 z (bT_branch_50 hQ)⟩)
  refine wC_X0_branch (Nat.zero_le _) (bC_X0_branch_0 (sC_isNode (d := d) h (fun f i hf hi hfn hB hN e1 => br0 (by decide) ?_) (fun z => br1 rfl (no (by rcases z with z | z; exact Or.inl z; exact Or.inr (Or.inl z.2)) _ (h1 _)))))
  obtain ⟨q1, q2, q3, q4⟩ := hB.fob hfn
  obtain ⟨A, lo, ps, ro, ru, lt, τ0, wy, hL, ⟨⟨hC1, hC2⟩, hlt⟩, hT, -, hkx, hCX, hSP⟩ := hB.2.2.1 f hfn
  have h12 : f < 12 := by have := hB.2.1.2.2.2.1; omega
  subst hf
  subst hi
  have q2' : aR w (fR w 5 p) (f : Int) = fnr w p f := q2
  obtain ⟨F, eF⟩ : ∃ F, F = fnr w p f := ⟨_, rfl⟩
  rw [← eF] at hL hC1 hC2 q2' q3 q4
  obtain ⟨rs, ers⟩ : ∃ rs, rs = rowsK τ0 f 0 (rk τ f) := ⟨_, rfl⟩
  have e77 := hT.1.1
  have hb := hT.2.2.2
  have hTT := hT.2.1
  rw [← ers] at hC2 e77 hb hTT hCX hSP
  have hin : i < tsz τ0 rs wy 121 [] := by omega
  have ex4 : w32 (w32 (300 * (f : Int)) + (i : Int)) = ((300 * f + i : Nat) : Int) := by rw [w32_s (a := 300 * (f : Int)) (by omega) (by omega), w32_s (by omega) (by omega)]; omega
  have e2 : ff_in (i : Int) 0 (w32 (tA τ 77 f - 1)) τ = 1 := by
    rw [w32_s (by omega) (by omega)]
    exact ff_in_1 (by omega)
  refine ⟨q1, ?_⟩
  rw [q2']
  refine ⟨by rw [q3]; decide, nd_tag hC2.1.2.1, ?_⟩
  refine sC_getNode (d := d + 249) hC2 hin hb (fun m P r' hy c => ?_) (fun y hy => by obtain ⟨m, h1, -⟩ := TT.nd 121 [] 0 hTT i y hy; exact ⟨m, h1⟩)
  have tt : TT τ0 τ rs wy (300 * f) (m + 1) P i := by
    obtain ⟨m', g1, g2⟩ := TT.nd 121 [] 0 hTT i _ hy
    have : m' = m := by simpa using g1.symm
    subst this
    rw [Nat.zero_add] at g2
    exact g2
  have hkid := fun i y => c.kid (i := i) (y := y)
  obtain ⟨⟨d1, d2, d3⟩, ⟨k1, k2, k3⟩, cm0, d4, -⟩ := id c
  obtain ⟨b84, -⟩ := nd_both hCX hSP d4 tt.2.1
  obtain ⟨-, -, b86, bl⟩ := tt
  have sz := nds_sz 121 [] i _ hy
  have es : tsz τ0 rs wy (m + 1) P = 1 + ((chd τ0 rs wy P).map (fun x => tsz τ0 rs wy m x.2)).sum := rfl
  have hsz : i + tsz τ0 rs wy (m + 1) P ≤ tsz τ0 rs wy 121 [] := sz
  have ll : (chd τ0 rs wy P).length ≤ ((chd τ0 rs wy P).map (fun x => tsz τ0 rs wy m x.2)).sum := by
    cases m with
    | zero => rw [cm0 rfl]; exact Nat.le_refl _
    | succ m => exact len_sum _ (fun y _ => tsz_pos)
  obtain ⟨cl, ecl⟩ : ∃ cl, cl = (chd τ0 rs wy P).length := ⟨_, rfl⟩
  have ew : w32 ((cl : Int) - 1) = (cl : Int) - 1 := w32_s (by omega) (by omega)
  refine ⟨nd_hF d2 (Or.inr rfl), by rw [k1]; decide, ?_⟩
  rw [k2, ← ecl, ew]
  refine sC_isIn (τ := τ) (d := d + 249) ?_
  by_cases z3 : 0 ≤ x3 ∧ x3 < cl
  · rw [ff_in_1 (by omega)]
    obtain ⟨j, hj⟩ : ∃ j : Nat, x3 = j := ⟨x3.toNat, by omega⟩
    subst hj
    obtain ⟨y, hyj⟩ : ∃ y, (chd τ0 rs wy P)[j]? = some y := ⟨_, List.getElem?_eq_getElem (by omega)⟩
    obtain ⟨m', em, cx, tx⟩ := hkid j y hyj
    refine ⟨fun _ => ⟨nd_hF d2 (Or.inr rfl), ⟨by rw [k1]; decide, by omega, by rw [k2]; omega⟩, nd_hF tx (Or.inl rfl)⟩, fa ?_⟩
    rw [if_pos (by decide)]
    have n106 : fI w 106 (aR w (fR w 107 r') (j : Int)) = ((i + 1 + prs τ0 rs wy m (chd τ0 rs wy P) j : Nat) : Int) := cx.1.2.2
    rw [n106]
    have pl := prs_le (τ := τ0) (rs := rs) (wy := wy) (m := m) (cs := chd τ0 rs wy P) j
    refine wT_branch (by omega) (bT_branch_0 ⟨hidx, br0 (fun y => ?_) ?_⟩)
    · rcases y with y | y | y
      · rw [e1] at y; cases y
      · rw [e2] at y; cases y
      · rw [ex4, b84, ← ecl, ew, ff_in_1 (by omega)] at y; cases y
    · rw [ex4]
      refine ⟨by omega, fa ?_⟩
      rw [b86, if_neg (fun y => by rw [y] at ecl; simp at ecl; omega)]
      refine bT_branch_69 (fun I hI => ?_)
      have key : ∀ g a : Nat, j - a ≤ g → a ≤ j → I ((300 * f + (i + 1 + prs τ0 rs wy m (chd τ0 rs wy P) a) : Nat) : Int) (a : Int) τ := by
        intro g
        induction g with
        | zero =>
          intro a hg ha
          have ea : a = j := by omega
          subst ea
          refine hI _ _ _ ⟨fun _ => bT_branch_90 ?_, fun y => absurd (Int.le_refl _) y⟩
          rw [w32_s (a := 300 * (f : Int)) (by omega) (by omega), w32_s (by omega) (by omega), show ((300 * f + (i + 1 + prs τ0 rs wy m (chd τ0 rs wy P) a) : Nat) : Int) - 300 * (f : Int) = ((i + 1 + prs τ0 rs wy m (chd τ0 rs wy P) a : Nat) : Int) by omega]
          exact h1 _
        | succ g ihg =>
          intro a hg ha
          by_cases ea : a = j
          · exact ihg a (by omega) ha
          · have pla := prs_le (τ := τ0) (rs := rs) (wy := wy) (m := m) (cs := chd τ0 rs wy P) a
            obtain ⟨z, hz⟩ : ∃ z, (chd τ0 rs wy P)[a]? = some z := ⟨_, List.getElem?_eq_getElem (by omega)⟩
            obtain ⟨-, -, b88, -⟩ := bl.at _ _ a z hz
            have b88 : tA τ 88 ((300 * f + (i + 1 + prs τ0 rs wy m (chd τ0 rs wy P) a) : Nat) : Int) = if a + 1 = (chd τ0 rs wy P).length then -4 else ((300 * f + (i + 1 + prs τ0 rs wy m (chd τ0 rs wy P) (a + 1)) : Nat) : Int) := b88
            refine hI _ _ _ ⟨fun y => by omega, fun _ => ⟨by omega, fa (fa ?_)⟩⟩
            rw [b88, if_neg (by omega), w32_k (by omega)]
            exact ihg (a + 1) (by omega) (by omega)
      have := key j 0 (by omega) (Nat.zero_le _)
      rw [prs_0] at this
      exact this
  · rw [ff_in_0 (by omega)]
    refine ⟨fun y => absurd rfl y, fa ?_⟩
    rw [if_neg (fun y => y rfl)]
    refine no (Or.inr (Or.inr ?_)) _ (h1 _)
    rw [ex4, b84, ← ecl, ew]
    exact ff_in_0 (by omega)
end ZApib
