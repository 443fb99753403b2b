/-! the loop over a rule's patterns, both: its state -/
section ZRule5
variable {p b e d : Nat} {w : CW} {τ : TW}
abbrev SPR : List Nat := [2, 3, 4, 5, 6, 7, 8, 16, 17, 18, 19, 20, 21, 22, 23, 24, 25, 26, 28, 29, 30, 31, 32, 33, 34, 35, 36, 37, 38, 39, 40, 45, 47, 49, 50, 51, 52, 53, 54, 55, 56, 57, 58, 59, 60]
/-- a rule's head: its function F (number f, m columns), its object x, the row A of its patterns, its number R -/
def RU0 (p f F m R x A : Nat) (u : CW) (σ : TW) : Prop :=
  (tg u F = 4 ∧ p + 8 < F ∧ fI u 46 F = m ∧ IArr p u (fR u 45 F) 3) ∧
  (∀ j : Nat, j < m → aI u (fR u 45 F) j = tA σ 44 (3 * f + j : Nat) ∧ 0 ≤ tA σ 44 (3 * f + j : Nat) ∧ tA σ 44 (3 * f + j : Nat) < 3 + nK σ) ∧
  (tA σ 43 f = m ∧ 1 ≤ m ∧ m ≤ 3 ∧ f < 12 ∧ R < 192 ∧ nR σ = R) ∧ (tg u A = 114 ∧ ln u A = m ∧ p + 8 < A) ∧ (tg u x = 5 ∧ p + 8 < x ∧ fR u 58 x = A) ∧ NA p u
theorem RU0.on {f F m R x A : Nat} {T S S' : List Nat} {w' : CW} {τ' : TW} (h : RU0 p f F m R x A w τ) (W : WF p w) (c : CF p T S S' w τ w' τ') (hT : ∀ r, r ∈ T → r ≤ p + 8 ∨ r = A ∨ cz w < r) (hS : 15 ∉ S ∧ 16 ∉ S) (hS' : ∀ f, f ∈ S' → f ≠ 10 ∧ f ≠ 27 ∧ f ≠ 43 ∧ f ≠ 44) : RU0 p f F m R x A w' τ' ∧ fR w' 15 p = fR w 15 p ∧ fR w' 16 p = fR w 16 p ∧ (∀ g, fI w' g F = fI w g F ∧ fR w' g F = fR w g F) ∧ (∀ g, fI w' g x = fI w g x ∧ fR w' g x = fR w g x) := by
  obtain ⟨⟨a1, a2, a3, a4⟩, b1, ⟨c1, c2, c3, c4, c5, c6⟩, ⟨d1, d2, d3⟩, ⟨e1, e2, e3⟩, g1⟩ := h
  have no : ∀ r, p + 8 < r → tg w r ≠ 0 → tg w r ≠ 114 → r ∉ p :: T := by
    intro r hr h0 h1 hm
    have := W.le h0
    rcases List.mem_cons.mp hm with y | y
    · omega
    · rcases hT r y with y | y | y
      · omega
      · rw [y, d1] at h1; exact h1 rfl
      · omega
  have oF := c.1.2.2.2.2 F (W.le (by rw [a1]; decide)) (no F a2 (by rw [a1]; decide) (by rw [a1]; decide))
  have ox := c.1.2.2.2.2 x (W.le (by rw [e1]; decide)) (no x e2 (by rw [e1]; decide) (by rw [e1]; decide))
  have o45 := a4.fr W c.1 (no _ a4.2.2 (by rw [a4.1]; decide) (by rw [a4.1]; decide))
  have tA' := c.1.2.2.2.1 A (W.le (by rw [d1]; decide))
  have f15 := (c.2.1 15 hS.1).2
  have f16 := (c.2.1 16 hS.2).2
  have F := c.2.2.2.1
  have e43 := (F 43 (fun y => (hS' _ y).2.2.1 rfl)).2
  have e44 := (F 44 (fun y => (hS' _ y).2.2.2 rfl)).2
  have nk : nK τ' = nK τ := by unfold nK; rw [(F 10 (fun y => (hS' _ y).1 rfl)).1]
  have nr := nR_ft F (fun y => (hS' _ y).2.1 rfl)
  refine ⟨⟨⟨by rw [ob.etg oF]; exact a1, a2, by rw [ob.efI oF]; exact a3, by rw [ob.efR oF]; exact o45.1⟩, fun j hj => ?_, ⟨by rw [e43]; exact c1, c2, c3, c4, c5, by rw [nr]; exact c6⟩, ⟨tA'.1.trans d1, tA'.2.trans d2, d3⟩, ⟨by rw [ob.etg ox]; exact e1, e2, by rw [ob.efR ox]; exact e3⟩, ?_⟩, f15, f16, fun g => ⟨ob.efI oF g, ob.efR oF g⟩, fun g => ⟨ob.efI ox g, ob.efR ox g⟩⟩
  · rw [ob.efR oF, o45.2, e44, nk]
    exact b1 j hj
  · obtain ⟨⟨k1, k2, k3, k4⟩, k5, k6, k7, k8⟩ := g1
    have t15 := c.1.2.2.2.1 (fR w 15 p) (W.le (by rw [show tg w (fR w 15 p) = 103 from k1]; decide))
    have t16 := c.1.2.2.2.1 (fR w 16 p) (W.le (by rw [show tg w (fR w 16 p) = 102 from k5]; decide))
    unfold NA
    rw [f15, f16]
    exact ⟨⟨t15.1.trans k1, t15.2.trans k2, k3, k4⟩, t16.1.trans k5, t16.2.trans k6, k7, k8⟩
/-- i patterns are read -/
def RLI (p f R A : Nat) (u0 : CW) (σ0 : TW) (i : Nat) (u : CW) (σ : TW) (c : Nat → Nat) (Di : Nat → Nat → Prop) (Sn : Nat → Nat → Int) : Prop :=
  RCH p A 7 u σ i c Di Sn ∧ (∀ j, j < i → ∀ n, Di j n → Sn j n = SnR σ n) ∧ nR σ = R ∧ BN σ0 σ (fun n => ∃ j, j < i ∧ Di j n) ∧ (tA σ 49 R = prF σ c i ∧ (0 < i → tA σ 47 R = c 0) ∧ ∀ y : Nat, y ≠ R → tA σ 47 y = tA σ0 47 y ∧ tA σ 49 y = tA σ0 49 y) ∧
  (∀ j, j < i → tA σ 18 (c j) = tA σ 44 (3 * f + j : Nat) ∧ np σ0 ≤ c j) ∧ UT σ0 σ 0 ∧ np σ0 ≤ np σ ∧ CF p [fR u0 15 p, fR u0 16 p, A] SPC [2, 3, 4, 5, 6, 7, 8, 16, 17, 18, 19, 20, 21, 22, 23, 24, 25, 26, 28, 29, 30, 31, 32, 33, 34, 35, 36, 37, 38, 39, 40, 47, 49] u0 σ0 u σ
theorem PS0 (h1 : RB p w τ) (h2 : KR p w τ) (h3 : NmR p w τ) (h4 : tI τ 16 = np τ) (h5 : (np τ : Int) ≤ tI τ 5) (h6 : tI τ 32 = 0) (h7 : fI w 19 p = 0) (h8 : fI w 20 p = 0) : PS p w τ 0 := ⟨h1, h2, h3, h4, h5, h6, by omega, h7, h8, fun k hk => by omega, fun k hk => by omega⟩
theorem sI_same {τ : TW} {f : Nat} {v : Int} (h : tI τ f = v) : sI τ f v = τ := by
  rw [← h]; exact sI_id τ f
theorem RLI.nx {f R A : Nat} {u0 u u' : CW} {σ0 σ σ' : TW} {i : Nat} {c : Nat → Nat} {Di : Nat → Nat → Prop} {Sn : Nat → Nat → Int} {S S' : List Nat} (h : RLI p f R A u0 σ0 i u σ c Di Sn) (W : WF p u) (K : KA p u) (hA : p + 8 < A) (tA' : tg u A ≠ 0) (cc : CF p [] S S' u σ u' σ') (hS : ∀ f, f ∈ S → f ∈ SPC := by decide) (hS' : ∀ f, f ∈ S' → f ∈ [2, 3, 4, 5, 6, 7, 8] := by decide) : RLI p f R A u0 σ0 i u' σ' c Di Sn := by
  obtain ⟨a1, a2, a3, a4, ⟨a5, a6, a7⟩, a8, a9, a10, a11⟩ := h
  have F := cc.2.2.2.1
  have nS : ∀ f, 9 ≤ f → f ∉ S' := fun f h y => by have := hS' _ y; simp only [List.mem_cons, List.not_mem_nil, or_false] at this; omega
  have g : ∀ f, 9 ≤ f → ∀ x, tA σ' f x = tA σ f x := fun f h => (F f (nS f h)).2
  have en : np σ' = np σ := np_ft F (nS _ (by decide))
  have er : nR σ' = nR σ := nR_ft F (nS _ (by decide))
  have oA := cc.1.2.2.2.2 A (W.le tA') (by simp; omega)
  have eS : ∀ n, SnR σ' n = SnR σ n := fun n => by unfold SnR; rw [er, g 30 (by decide)]
  have n0 : 0 ∉ S := fun y => by have := hS _ y; exact absurd this (by decide)
  refine ⟨?_, fun j hj n hn => by rw [eS]; exact a2 j hj n hn, er.trans a3, ?_, ⟨?_, fun z => by rw [g 47 (by decide)]; exact a6 z, fun y hy => by rw [g 47 (by decide), g 49 (by decide)]; exact a7 y hy⟩, fun j hj => by rw [g 18 (by decide), g 44 (by decide)]; exact a8 j hj, ?_, by omega, a11.trans cc (fun r hr => by cases hr) hS (fun f hf => by have := hS' f hf; simp only [List.mem_cons, List.not_mem_nil, or_false] at this ⊢; omega)⟩
  · have q := RCH.keep (b := A) a1 W cc.1 (Nat.le_refl _) (fun x hx => by rw [List.mem_singleton.mp hx]; left; omega) (fun j _ => ob.eaR oA j) (by omega) (Or.inr (Or.inl en)) (fun f h1 h2 x _ => g f (by omega) x) ⟨by unfold nK; rw [(F 10 (nS _ (by decide))).1]; exact Nat.le_refl _, fun k _ => ⟨kd_fr2 K cc.1 (cc.2.1 0 n0).2 (by have := K.2.2.1; have : p < fR u 0 p := this; simp; omega) k, g 14 (by decide) _, fun _ _ => g 15 (by decide) _⟩⟩
    rw [← en] at q
    exact q
  · exact a4.st (S := []) (FT.refl _ _) F (by decide) (fun f hf => by have := hS' f hf; simp only [List.mem_cons, List.not_mem_nil, or_false] at this; omega)
  · rw [g 49 (by decide), a5]
    exact (prF_eq i (fun j _ => ⟨rfl, g 26 (by decide) _⟩)).symm
  · exact a9.trans (UT.ft F (fun f hf => by have := hS' f hf; simp only [List.mem_cons, List.not_mem_nil, or_false] at this; omega) 0) a10 (by
      have y1 := nR_ft a11.2.2.2.1 (by decide)
      exact y1)
end ZRule5
