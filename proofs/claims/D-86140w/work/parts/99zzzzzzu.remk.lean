/-! a tree's rows are copied: the reference -/
section ZRemk
variable {p b e d f F n lo wy : Nat} {w w' wS : CW} {τ σ ρ : TW} {rs : List (Nat × Nat)} {ps : List Pa} {ro : Nat × Nat → Nat}
noncomputable def cyW (σ : TW) (a b x3 : Int) : TW := sA (sA (sA (sA (sA (sA (sA (sA (sA (sA (sA (sA σ 80 b (tA σ 80 a)) 81 b (tA σ 81 a)) 82 b (tA σ 82 a)) 83 b (tA σ 83 a)) 84 b (tA σ 84 a)) 85 b (ff_moved (tA σ 85 a) x3 σ)) 86 b (ff_moved (tA σ 86 a) x3 σ)) 88 b (ff_moved (tA σ 88 a) x3 σ)) 89 b (tA σ 89 a)) 90 b (tA σ 90 a)) 91 b (tA σ 91 a)) 92 b (zb (tA σ 92 a))
abbrev SCP : List Nat := [80, 81, 82, 83, 84, 85, 86, 88, 89, 90, 91, 92]
theorem cyW_ft (a b x3 : Int) : FT SCP σ (cyW σ a b x3) := (((((((((((((FT.refl SCP σ).ssA (by decide)).ssA (by decide)).ssA (by decide)).ssA (by decide)).ssA (by decide)).ssA (by decide)).ssA (by decide)).ssA (by decide)).ssA (by decide)).ssA (by decide)).ssA (by decide)).ssA (by decide))
theorem cyW_ne {a b x3 i : Int} (h : i ≠ b) (g : Nat) : tA (cyW σ a b x3) g i = tA σ g i := by
  unfold cyW
  rw [tA_sA, if_neg (fun y => h y.2), tA_sA, if_neg (fun y => h y.2), tA_sA, if_neg (fun y => h y.2), tA_sA, if_neg (fun y => h y.2), tA_sA, if_neg (fun y => h y.2), tA_sA, if_neg (fun y => h y.2), tA_sA, if_neg (fun y => h y.2), tA_sA, if_neg (fun y => h y.2), tA_sA, if_neg (fun y => h y.2), tA_sA, if_neg (fun y => h y.2), tA_sA, if_neg (fun y => h y.2), tA_sA, if_neg (fun y => h y.2)]
theorem cyW_at {a b x3 : Int} : (∀ g, (80 ≤ g ∧ g ≤ 84) ∨ (89 ≤ g ∧ g ≤ 91) → tA (cyW σ a b x3) g b = tA σ g a) ∧ tA (cyW σ a b x3) 92 b = zb (tA σ 92 a) ∧ ∀ g, g = 85 ∨ g = 86 ∨ g = 88 → tA (cyW σ a b x3) g b = if tA σ g a = -4 then -4 else w32 (tA σ g a + x3) := by
  refine ⟨fun g hg => ?_, ?_, fun g hg => ?_⟩
  · have : g = 80 ∨ g = 81 ∨ g = 82 ∨ g = 83 ∨ g = 84 ∨ g = 89 ∨ g = 90 ∨ g = 91 := by omega
    rcases this with q | q | q | q | q | q | q | q <;> rw [q] <;> simp [cyW, tA_sA]
  · simp [cyW, tA_sA]
  · rcases hg with q | q | q <;> rw [q] <;> simp [cyW, tA_sA, ff_moved]
theorem sT_copy {N : Nat} {x2 : Int} {Q : Int → TW → Prop} (hf : f < 12) (hN : N ≤ 121) (h77 : tA τ 77 12 = (N : Nat)) (hQ : ∀ σ, FT SCP τ σ → MVD τ σ 3600 (300 * f) N → NFr τ σ (300 * f) 0 N → pT_remake_261 (wpT d) Q f x2 σ) : pT_remake_49 (wpT d) Q f x2 (300 * ((f : Int) - 12)) 0 τ := by
  refine bT_remake_49 (fun I hI => ?_)
  have key : ∀ g j : Nat, N - j ≤ g → j ≤ N → ∀ σ, FT SCP τ σ → MVD τ σ 3600 (300 * f) j → NFr τ σ (300 * f) 0 j → I (j : Int) σ := by
    intro g
    induction g with
    | zero =>
      intro j hg hj σ F M R
      have ej : j = N := by omega
      refine hI _ _ ⟨fun _ => hQ σ F (by rw [← ej]; exact M) (by rw [← ej]; exact R), fun y => absurd ?_ y⟩
      rw [(F 77 (by decide)).2, h77, ej]; exact Int.le_refl _
    | succ g ih =>
      intro j hg hj σ F M R
      have e77 : tA σ 77 12 = (N : Nat) := by rw [(F 77 (by decide)).2, h77]
      by_cases ej : j = N
      · refine hI _ _ ⟨fun _ => hQ σ F (by rw [← ej]; exact M) (by rw [← ej]; exact R), fun y => absurd ?_ y⟩
        rw [e77, ej]; exact Int.le_refl _
      · have ea : w32 (3600 + (j : Int)) = ((3600 + j : Nat) : Int) := by rw [w32_s (by omega) (by omega)]; omega
        have eb : w32 (((3600 + j : Nat) : Int) + 300 * ((f : Int) - 12)) = ((300 * f + j : Nat) : Int) := by rw [w32_s (by omega) (by omega)]; omega
        have ra : 0 ≤ ((3600 + j : Nat) : Int) ∧ ((3600 + j : Nat) : Int) < 3900 := by omega
        have rb : 0 ≤ ((300 * f + j : Nat) : Int) ∧ ((300 * f + j : Nat) : Int) < 3900 := by omega
        have nx : I (w32 ((j : Int) + 1)) (cyW σ ((3600 + j : Nat) : Int) ((300 * f + j : Nat) : Int) (300 * ((f : Int) - 12))) := by
          rw [w32_k (by omega)]
          have o := cyW_at (σ := σ) (a := ((3600 + j : Nat) : Int)) (b := ((300 * f + j : Nat) : Int)) (x3 := 300 * ((f : Int) - 12))
          have src : ∀ g, 80 ≤ g → g ≤ 92 → tA σ g ((3600 + j : Nat) : Int) = tA τ g ((3600 + j : Nat) : Int) := fun g h1 h2 => R g _ h1 h2 (by omega)
          refine ih (j + 1) (by omega) (by omega) _ (F.trans (cyW_ft _ _ _)) (fun i hi => ?_) (fun g i h1 h2 h3 => ?_)
          · by_cases q : i = j
            · rw [q]
              refine ⟨fun g hg => by rw [o.1 g hg, src g (by omega) (by omega)], by rw [o.2.1, src 92 (by decide) (by decide)], fun g hg => ?_⟩
              rw [o.2.2 g hg, src g (by omega) (by omega), show 300 * ((f : Int) - 12) = ((300 * f : Nat) : Int) - ((3600 : Nat) : Int) by omega]
            · obtain ⟨m1, m2, m3⟩ := M i (by omega)
              exact ⟨fun g hg => by rw [cyW_ne (by omega)]; exact m1 g hg, by rw [cyW_ne (by omega)]; exact m2, fun g hg => by rw [cyW_ne (by omega)]; exact m3 g hg⟩
          · rw [cyW_ne (by omega)]
            exact R g i h1 h2 (by omega)
        refine hI _ _ ⟨fun y => absurd y (by rw [e77]; omega), fun _ => fa (fa ?_)⟩
        rw [ea, eb]
        exact ⟨ra, rb, fa ⟨ra, rb, fa ⟨ra, rb, fa ⟨ra, rb, fa ⟨ra, rb, fa ⟨ra, rb, fa ⟨ra, rb, fa ⟨ra, rb, fa ⟨ra, rb, fa ⟨ra, rb, fa ⟨ra, rb, fa ⟨ra, rb, fa (fa nx)⟩⟩⟩⟩⟩⟩⟩⟩⟩⟩⟩⟩
  exact key N 0 (by omega) (Nat.zero_le _) τ (FT.refl _ _) (fun i hi => by omega) (fun _ _ _ _ _ => rfl)
end ZRemk
