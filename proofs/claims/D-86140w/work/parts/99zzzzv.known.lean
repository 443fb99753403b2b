/-! the reference's trees: what is known -/
section ZKnown
variable {p b e d f : Nat} {w : CW} {τ σ : TW}
/-- the chain above a node (rows of nodes) -/
def KC (σ : TW) : Sp → Nat → Prop
  | [], x => x < 3900 ∧ tA σ 85 x = -4
  | .inl g :: P, x => x < 3900 ∧ ∃ u : Nat, tA σ 85 x = u ∧ tA σ 80 u = 2 ∧ tA σ 81 u = g ∧ g < 192 ∧ KC σ P u
  | .inr (π, b) :: P, x => x < 3900 ∧ ∃ u : Nat, tA σ 85 x = u ∧ tA σ 80 u ≠ 2 ∧ tA σ 83 u = (cod π : Nat) ∧ (tA σ 89 x = b.1 ∧ tA σ 90 x = b.2.1 ∧ tA σ 91 x = b.2.2.1 ∧ tA σ 92 x = b.2.2.2) ∧ KC σ P u
theorem KC.lt {P : Sp} {x : Nat} (h : KC σ P x) : x < 3900 := by
  cases P with
  | nil => exact h.1
  | cons y P =>
    cases y with
    | inl g => exact h.1
    | inr z => exact h.1
theorem KC.fr {ρ : TW} (F : ∀ g (i : Nat), (80 ≤ g ∧ g ≤ 83) ∨ (85 ≤ g ∧ g ≤ 92) → tA ρ g i = tA σ g i) : ∀ {P : Sp} {x : Nat}, KC σ P x → KC ρ P x := by
  intro P
  induction P with
  | nil =>
    intro x h
    exact ⟨h.1, by rw [F 85 x (by decide)]; exact h.2⟩
  | cons y P ih =>
    intro x h
    cases y with
    | inl g =>
      obtain ⟨h0, u, h1, h2, h3, h4, h5⟩ := h
      exact ⟨h0, u, by rw [F 85 x (by decide)]; exact h1, by rw [F 80 u (by decide)]; exact h2, by rw [F 81 u (by decide)]; exact h3, h4, ih h5⟩
    | inr z =>
      obtain ⟨π, b⟩ := z
      obtain ⟨h0, u, h1, h2, h3, h4, h5⟩ := h
      exact ⟨h0, u, by rw [F 85 x (by decide)]; exact h1, by rw [F 80 u (by decide)]; exact h2, by rw [F 83 u (by decide)]; exact h3, by rw [F 89 x (by decide), F 90 x (by decide), F 91 x (by decide), F 92 x (by decide)]; exact h4, ih h5⟩
/-- the places known -/
def tss : Sp → List (Pa × Br)
  | [] => []
  | .inl _ :: P => tss P
  | .inr y :: P => y :: tss P
theorem tss_len : ∀ P : Sp, (tss P).length ≤ P.length := by
  intro P
  induction P with
  | nil => exact Nat.le_refl _
  | cons y P ih =>
    cases y with
    | inl g => exact Nat.le_succ_of_le ih
    | inr z => exact Nat.succ_le_succ ih
/-- entries of what is known, from j0 on -/
def KNs (σ : TW) (j0 : Nat) (l : List (Pa × Br)) : Prop := ∀ j x, l[j]? = some x → tA σ 106 (j0 + j : Nat) = (cod x.1 : Nat) ∧ ∃ y : Nat, y < 3900 ∧ tA σ 107 (j0 + j : Nat) = y ∧ tA σ 89 y = x.2.1 ∧ tA σ 90 y = x.2.2.1 ∧ tA σ 91 y = x.2.2.2.1 ∧ tA σ 92 y = x.2.2.2.2
/-- what is known, laid -/
def KNW (σ : TW) (P : Sp) : Prop := tI σ 105 = ((tss P).length : Nat) ∧ (tss P).length ≤ 300 ∧ KNs σ 0 (tss P) ∧ ∀ R : Nat, R < 192 → tA σ 108 R = if R ∈ gds P then 1 else 0
theorem sT_layKnown {P : Sp} {x : Nat} (h : KC τ P x) (hl : P.length ≤ 200) {Q : ZRes → TW → Prop} (hQ : ∀ σ, FT [105, 106, 107, 108] τ σ → KNW σ P → Q (.inl none) σ) : wpT (d + 1) 53 [ai x] τ Q := by
  refine wT_layKnown (Nat.zero_le _) (bT_layKnown_0 (fa (bT_layKnown_7 ?_)))
  intro I hI
  have key : ∀ n j : Nat, j + n = 192 → ∀ σ, FT [105, 106, 107, 108] τ σ → tI σ 105 = 0 → (∀ R : Nat, R < j → tA σ 108 R = 0) → I (j : Int) σ := by
    intro n
    induction n with
    | zero =>
      intro j hj σ F h105 h108
      have hj : j = 192 := by omega
      subst hj
      refine hI _ _ (br1 (by decide) (bT_layKnown_27 (bT_layKnown_29 ?_)))
      intro J hJ
      have chain : ∀ (P' : Sp) (y : Nat) (L : List (Pa × Br)) (G : List Nat) (σ : TW), KC σ P' y → FT [105, 106, 107, 108] τ σ → tI σ 105 = (L.length : Nat) → L.length + P'.length ≤ 200 → KNs σ 0 L → (∀ R : Nat, R < 192 → tA σ 108 R = if R ∈ G then 1 else 0) → (∀ σ', FT [105, 106, 107, 108] τ σ' → tI σ' 105 = ((L ++ tss P').length : Nat) → KNs σ' 0 (L ++ tss P') → (∀ R : Nat, R < 192 → tA σ' 108 R = if R ∈ G ∨ R ∈ gds P' then 1 else 0) → Q (.inl none) σ') → J (y : Int) σ := by
        intro P'
        induction P' with
        | nil =>
          intro y L G σ hK F hn hlen hS hG hQ
          have hy := hK.lt
          refine hJ _ _ ⟨by omega, br1 hK.2 (bT_layKnown_117 (call := wpT d) (hQ σ F (by rw [hn]; simp [tss]) (by simpa [tss] using hS) (fun R hR => ?_)))⟩
          rw [hG R hR]
          simp [gds]
        | cons z P' ih =>
          intro y L G σ hK F hn hlen hS hG hQ
          have hy := hK.lt
          cases z with
          | inl g =>
            obtain ⟨h0, u, k1, k2, k3, k4, k5⟩ := hK
            have hu := k5.lt
            refine hJ _ _ ⟨by omega, br0 (by rw [k1]; omega) ⟨by omega, ?_⟩⟩
            rw [k1]
            refine fa ⟨by omega, br1 k2 ⟨by omega, by rw [k3]; omega, fa (bT_layKnown_107 (call := wpT d) ⟨by omega, ?_⟩)⟩⟩
            rw [k3]
            show ∀ x2_16 : Int, x2_16 = tA σ 85 y → J x2_16 (sA σ 108 g 1)
            rw [k1]
            refine fa ?_
            have F1 : FT [108] σ (sA σ 108 g 1) := (FT.refl _ _).ssA (by decide)
            refine ih u L (g :: G) (sA σ 108 g 1) (KC.fr (fun h i hh => (F1 h (by simp; omega)).2 i) k5) (F.ssA (by decide)) hn (by simp at hlen; omega) (fun j x hx => ?_) (fun R hR => ?_) (fun σ' F' n' S' G' => hQ σ' F' n' S' (fun R hR => ?_))
            · exact hS j x hx
            · show (if 108 = 108 ∧ (R : Int) = g then (1 : Int) else tA σ 108 R) = _
              by_cases q : R = g
              · rw [if_pos ⟨rfl, by omega⟩, if_pos (by rw [q]; exact List.mem_cons_self ..)]
              · rw [if_neg (by omega), hG R hR]
                simp [q]
            · rw [G' R hR]
              have : (R ∈ g :: G ∨ R ∈ gds P') ↔ (R ∈ G ∨ R ∈ gds (.inl g :: P')) := by
                show _ ↔ (R ∈ G ∨ R ∈ g :: gds P')
                rw [List.mem_cons, List.mem_cons]
                constructor
                · rintro ((q | q) | q)
                  · exact Or.inr (Or.inl q)
                  · exact Or.inl q
                  · exact Or.inr (Or.inr q)
                · rintro (q | q | q)
                  · exact Or.inl (Or.inr q)
                  · exact Or.inl (Or.inl q)
                  · exact Or.inr q
              by_cases q : R ∈ g :: G ∨ R ∈ gds P'
              · rw [if_pos q, if_pos (this.mp q)]
              · rw [if_neg q, if_neg (fun y => q (this.mpr y))]
          | inr z =>
            obtain ⟨π, b⟩ := z
            obtain ⟨h0, u, k1, k2, k3, k4, k5⟩ := hK
            have hu := k5.lt
            have hl3 : L.length < 300 := by simp at hlen; omega
            refine hJ _ _ ⟨by omega, br0 (by rw [k1]; omega) ⟨by omega, ?_⟩⟩
            rw [k1]
            refine fa ⟨by omega, br0 k2 ⟨by omega, by rw [hn]; omega, fa ⟨?_, ?_⟩⟩⟩
            · show 0 ≤ tI σ 105 ∧ tI σ 105 < 300
              rw [hn]; omega
            obtain ⟨ρ, hρ⟩ : ∃ ρ, ρ = sI (sA (sA σ 106 (L.length : Nat) (cod π : Nat)) 107 (L.length : Nat) (y : Nat)) 105 ((L.length + 1 : Nat) : Int) := ⟨_, rfl⟩
            have eρ : sI (sA (sA σ 106 (tI σ 105) (tA σ 83 u)) 107 (tI (sA σ 106 (tI σ 105) (tA σ 83 u)) 105) (y : Nat)) 105 (w32 (tI (sA (sA σ 106 (tI σ 105) (tA σ 83 u)) 107 (tI (sA σ 106 (tI σ 105) (tA σ 83 u)) 105) (y : Nat)) 105 + 1)) = ρ := by
              have q1 : tI (sA σ 106 (tI σ 105) (tA σ 83 u)) 105 = tI σ 105 := rfl
              have q2 : tI (sA (sA σ 106 (tI σ 105) (tA σ 83 u)) 107 (tI σ 105) (y : Nat)) 105 = tI σ 105 := rfl
              rw [hρ, q1, q2, hn, k3, w32_s (by omega) (by omega)]
              rfl
            refine fa (fa ?_)
            rw [eρ]
            have F1 : FT [105, 106, 107] σ ρ := by rw [hρ]; exact (((FT.refl _ _).ssA (by decide)).ssA (by decide)).ssI (by decide)
            refine bT_layKnown_107 (call := wpT d) ⟨by omega, ?_⟩
            rw [(F1 85 (by decide)).2, k1]
            refine fa ?_
            refine ih u (L ++ [(π, b)]) G ρ (KC.fr (fun h i hh => (F1 h (by simp; omega)).2 i) k5) (F.trans (F1.mono (by decide))) (by rw [hρ, List.length_append]; rfl) (by rw [List.length_append]; simp at hlen ⊢; omega) (fun j x hx => ?_) (fun R hR => by rw [(F1 108 (by decide)).2]; exact hG R hR) (fun σ' F' n' S' G' => hQ σ' F' (by rw [n']; simp [tss]) (by simpa [tss, List.append_assoc] using S') (fun R hR => G' R hR))
            have fr : ∀ g (i : Int), 89 ≤ g → g ≤ 92 → tA ρ g i = tA σ g i := fun g i h1 h2 => (F1 g (by simp; omega)).2 i
            rcases Nat.lt_or_ge j L.length with q | q
            · rw [List.getElem?_append_left q] at hx
              obtain ⟨s1, v, s2, s3, s4⟩ := hS j x hx
              have e6 : tA ρ 106 (0 + j : Nat) = tA σ 106 (0 + j : Nat) := by
                rw [hρ, tA_sI, tA_sA, if_neg (by omega), tA_sA, if_neg (by omega)]
              have e7 : tA ρ 107 (0 + j : Nat) = tA σ 107 (0 + j : Nat) := by
                rw [hρ, tA_sI, tA_sA, if_neg (by omega), tA_sA, if_neg (by omega)]
              rw [e6, e7]
              refine ⟨s1, v, s2, s3, ?_⟩
              rw [fr 89 _ (by decide) (by decide), fr 90 _ (by decide) (by decide), fr 91 _ (by decide) (by decide), fr 92 _ (by decide) (by decide)]
              exact s4
            · have hl2 := (List.getElem?_eq_some_iff.mp hx).1
              rw [List.length_append] at hl2
              have hj2 : j = L.length := by simp at hl2; omega
              subst hj2
              have ex : x = (π, b) := by
                rw [List.getElem?_append_right (Nat.le_refl _)] at hx
                simpa using hx.symm
              subst ex
              rw [Nat.zero_add]
              have e6 : tA ρ 106 (L.length : Nat) = (cod π : Nat) := by rw [hρ]; simp [tA_sA, tA_sI]
              have e7 : tA ρ 107 (L.length : Nat) = (y : Nat) := by rw [hρ]; simp [tA_sA, tA_sI]
              refine ⟨e6, y, hy, e7, ?_⟩
              rw [fr 89 _ (by decide) (by decide), fr 90 _ (by decide) (by decide), fr 91 _ (by decide) (by decide), fr 92 _ (by decide) (by decide)]
              exact k4
      have := chain P x [] [] σ (KC.fr (fun h i hh => (F h (by simp; omega)).2 i) h) F (by rw [h105]; rfl) (by simp; omega) (fun j x hx => by simp at hx) (fun R hR => by rw [h108 R hR]; simp) (fun σ' F' n' S' G' => hQ σ' F' ⟨by simpa using n', by have := tss_len P; omega, by simpa using S', fun R hR => by rw [G' R hR]; simp⟩)
      exact this
    | succ n ih =>
      intro j hj σ F h105 h108
      refine hI _ _ (br0 (by omega) ⟨⟨by omega, by omega⟩, fa (fa ?_)⟩)
      rw [w32_s (by omega) (by omega)]
      have := ih (j + 1) (by omega) (sA σ 108 j (zb 0)) (F.ssA (by decide)) h105 (fun R hR => by
        show (if 108 = 108 ∧ (R : Int) = j then zb 0 else tA σ 108 R) = 0
        by_cases q : R = j
        · rw [if_pos ⟨rfl, by omega⟩]; rfl
        · rw [if_neg (by omega)]
          exact h108 R (by omega))
      exact this
  exact key 192 0 (by omega) _ ((FT.refl _ _).ssI (by decide)) rfl (fun R hR => by omega)
end ZKnown
