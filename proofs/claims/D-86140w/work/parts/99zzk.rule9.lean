/-! a rule's end, both: the answer, and what comes to the function -/
section ZRule9
variable {p b e d : Nat} {w : CW} {τ : TW}
/-- what a rule leaves -/
def RuE (p f i F R x rr lo : Nat) (u0 : CW) (σ0 : TW) (w' : CW) (τ' : TW) : Prop :=
  FS p w' τ' ∧ RuR p w' τ' f i x lo (np τ') ∧ fR w' 66 x = fR u0 66 x ∧ (∀ j : Nat, aR w' rr j = if j = i then x else aR u0 rr j) ∧ (fI w' 48 F = (i + 1 : Nat) ∧ (∀ g, g ≠ 48 → fI w' g F = fI u0 g F) ∧ ∀ g, fR w' g F = fR u0 g F) ∧ (tA τ' 45 f = (i + 1 : Nat) ∧ ∀ y : Nat, y ≠ f → tA τ' 45 y = tA σ0 45 y) ∧ URo σ0 τ' R
/-- a rule's patterns, at its row A -/
def PTS (p f i m A : Nat) (w : CW) (τ : TW) (kn : Nat) : Prop := ∃ (c : Nat → Nat) (Di : Nat → Nat → Prop), tA τ 47 (16 * f + i : Nat) = c 0 ∧
    ((∀ j, j + 1 < m → tA τ 23 (c j) = c (j + 1)) ∧ tA τ 23 (c (m - 1)) = -4 ∧ (∀ j, j < m → c j < np τ) ∧ (∀ j, j + 1 < m → c j < c (j + 1)) ∧ ∀ j, j < m → PRel p (p + 8) w τ (SnT τ (16 * f + i)) 7 (nxt c m (np τ) j) (aR w A j) (c j) (Di j)) ∧
    (∀ j, j < m → tA τ 18 (c j) = tA τ 44 (3 * f + j : Nat)) ∧ tA τ 49 (16 * f + i : Nat) = prF τ c m ∧ ∀ n, n < kn ↔ ∃ j, j < m ∧ Di j n
theorem PTS.fr {f i m A kn : Nat} {T S : List Nat} {w' : CW} {τ' : TW} (h : PTS p f i m A w τ kn) (hkn : kn ≤ 8) (hA : PArr (p + 8) w A m) (W : WF p w) (hF : Fr T w w') (hT : ∀ x, x ∈ T → x ≤ p + 8 ∨ cz w < x ∨ ¬ ptg (tg w x)) (hk : KdK p w w' τ τ') (F : FT S τ τ') (hS : ∀ g, g ∈ S → g < 10 ∨ (g = 45 ∨ (50 ≤ g ∧ g ≠ 49))) : PTS p f i m A w' τ' kn ∧ PArr (p + 8) w' A m := by
  obtain ⟨c, Di, c6, ⟨d1, d2, d3, d4, d5⟩, e1, e2, e3⟩ := h
  have g : ∀ h, 10 ≤ h → h ≤ 49 → h ≠ 45 → ∀ x, tA τ' h x = tA τ h x := fun h h1 h2 h3 => (F h (fun y => by have := hS h y; omega)).2
  have en : np τ' = np τ := np_ft F (fun y => by have := hS _ y; omega)
  have hAT : A ∉ T := by
    intro y
    have := W.le (r := A) (by rw [hA.1]; decide)
    rcases hT A y with z | z | z
    · have := hA.2.2; omega
    · omega
    · exact z (Or.inr hA.1)
  have oA := hF.2.2.2.2 A (W.le (by rw [hA.1]; decide)) hAT
  have eS : ∀ n, SnT τ' (16 * f + i) n = SnT τ (16 * f + i) n := fun n => g 30 (by decide) (by decide) (by decide) _
  refine ⟨⟨c, Di, by rw [g 47 (by decide) (by decide) (by decide)]; exact c6, ⟨fun j hj => by rw [g 23 (by decide) (by decide) (by decide)]; exact d1 j hj, by rw [g 23 (by decide) (by decide) (by decide)]; exact d2, fun j hj => by rw [en]; exact d3 j hj, d4, fun j hj => ?_⟩, fun j hj => by rw [g 18 (by decide) (by decide) (by decide), g 44 (by decide) (by decide) (by decide)]; exact e1 j hj, ?_, e3⟩, ⟨by rw [ob.etg oA]; exact hA.1, by rw [ob.eln oA]; exact hA.2.1, hA.2.2⟩⟩
  · have hle := nxt_le d3 hj
    rw [ob.eaR oA, en]
    refine PRel.fr W hF (Nat.le_refl _) hk 7 _ _ _ _ (fun x hx => ?_) (fun h hh y q1 q2 => ?_) (fun y q1 q2 => g 23 (by decide) (by decide) (by decide) _) (fun n _ => eS n) (d5 j hj)
    · rcases hT x hx with z | z | z
      · exact Or.inl z
      · exact Or.inr (Or.inl z)
      · exact Or.inr (Or.inr (Or.inl z))
    · simp only [List.mem_cons, List.not_mem_nil, or_false] at hh
      exact g h (by omega) (by omega) (by omega) _
  · rw [g 49 (by decide) (by decide) (by decide), e2]
    exact (prF_eq m (fun j _ => ⟨rfl, g 26 (by decide) (by decide) (by decide) _⟩)).symm
theorem NmR.bit0 (h : NmR p w τ) {n : Nat} (hb : bit (tI τ 31) n = 1) (hn : n < 8) : n < nN τ := by
  obtain ⟨B, b1, b2, b3⟩ := h.2.2.2.2.2.2.2.1
  have b1' : tI τ 31 = (B : Int) := b1
  rcases Nat.lt_or_ge n (nN τ) with y | y
  · exact y
  · rw [b1', bit_eq b2 (by omega), b3 n y] at hb
    cases hb
end ZRule9
