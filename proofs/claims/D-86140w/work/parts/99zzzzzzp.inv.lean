/-! what holds between calls, both -/
section ZInv
variable {p b e d f F n : Nat} {w w' : CW} {τ σ : TW}
/-- the tape -/
def TPE (p : Nat) (w : CW) (τ : TW) : Prop := tpT τ ∧ tpC p w τ ∧ p < fR w 7 p ∧ fR w 7 p ≤ p + 8
/-- no text stands -/
def NTX (p : Nat) (w : CW) (τ : TW) : Prop := (fI w 22 p = 0 ∧ tI τ 9 = 0) ∧ (KA p w ∧ fI w 1 p = 0 ∧ tI τ 10 = 0) ∧ (FA p w ∧ fI w 6 p = 0 ∧ tI τ 41 = 0) ∧ NA p w ∧ tI τ 11 = 0
/-- a text stands, or none does -/
def TXS (p : Nat) (w : CW) (τ : TW) : Prop := NTX p w τ ∨ ((fI w 22 p = 1 ∧ tI τ 9 = 1) ∧ TXB p w τ)
/-- what was told of sorting -/
def RES (p : Nat) (w : CW) (τ : TW) : Prop := (tg w (fR w 23 p) = 102 ∧ ln w (fR w 23 p) = 7 ∧ p < fR w 23 p ∧ fR w 23 p ≤ p + 8) ∧ (tg w (fR w 24 p) = 102 ∧ ln w (fR w 24 p) = 32 ∧ p < fR w 24 p ∧ fR w 24 p ≤ p + 8) ∧
  ((tI τ 126 = 0 ∧ ∀ i : Nat, i < 7 → aI w (fR w 23 p) i = 0) ∨ (tI τ 126 ≠ 0 ∧ aI w (fR w 23 p) 0 = tI τ 119 ∧ aI w (fR w 23 p) 1 = tI τ 120 ∧ aI w (fR w 23 p) 2 = tI τ 121 ∧ aI w (fR w 23 p) 3 = tI τ 122 ∧ aI w (fR w 23 p) 4 = tI τ 123 ∧ aI w (fR w 23 p) 5 = tI τ 124 ∧ aI w (fR w 23 p) 6 = tI τ 125)) ∧
  (0 ≤ tI τ 123 ∧ aI w (fR w 23 p) 4 = tI τ 123 ∧ ∀ i : Nat, (i : Int) < tI τ 123 → i < 32 → aI w (fR w 24 p) i = tA τ 127 i) ∧
  ((fR w 25 p = 0 ∧ tI τ 128 = 0) ∨ (fR w 25 p ≠ 0 ∧ (∃ m : Nat, tI τ 128 = m ∧ m ≤ 8 ∧ ∀ i : Nat, i < 8 → (i < m → ∃ v : Nat, tA τ 129 i = v ∧ v < nV τ ∧ aR w (fR w 26 p) i = vr w p v) ∧ (m ≤ i → aR w (fR w 26 p) i = 0)) ∧ tg w (fR w 26 p) = 119 ∧ ln w (fR w 26 p) = 8 ∧ p + 8 < fR w 26 p))
/-- between calls -/
def INV (p : Nat) (w : CW) (τ : TW) : Prop := (WF p w ∧ Lit p w ∧ p + 8 ≤ cz w) ∧ TPE p w τ ∧ (fI w 21 p = tI τ 7 ∧ fI w 2 p = tI τ 11) ∧ (VAL p w τ ∧ VT τ) ∧ TXS p w τ ∧ RES p w τ
theorem Lit.fr3 {T : List Nat} (h : Lit p w) (W : WF p w) (fr : Fr T w w') (hT : ∀ x, x ∈ T → p ≤ x) : Lit p w' := by
  have hp := W.pz
  intro k s hs
  obtain ⟨h1, h2, h3⟩ := h k s hs
  have e : sr w' k = sr w k := fr.esr k
  have o1 := fr.2.2.2.2 (sr w k) (by omega) (fun y => by have := hT _ y; omega)
  have o2 := fr.2.2.2.2 (fR w 123 (sr w k)) (by omega) (fun y => by have := hT _ y; omega)
  rw [e]
  exact ⟨h1.st o1 o2, h2, by rw [ob.efR o1]; exact h3⟩
theorem TPE.fr (h : TPE p w τ) (t7 : tg w' (fR w 7 p) = tg w (fR w 7 p) ∧ ln w' (fR w 7 p) = ln w (fR w 7 p)) (a7 : ∀ i, aI w' (fR w 7 p) i = aI w (fR w 7 p) i) (e7 : fR w' 7 p = fR w 7 p) (e8 : fI w' 8 p = fI w 8 p) (e1 : tI σ 1 = tI τ 1) (e0 : ∀ i, tA σ 0 i = tA τ 0 i) : TPE p w' σ := by
  obtain ⟨⟨a1, a2, a3⟩, ⟨b1, b2, b3, b4⟩, c1, c2⟩ := h
  have e1' : tI σ 1 = tI τ 1 := e1
  refine ⟨⟨by rw [e1']; exact a1, by rw [e1']; exact a2, fun k hk => ?_⟩, ⟨?_, ?_, ?_, fun k hk => ?_⟩, by rw [e7]; exact c1, by rw [e7]; exact c2⟩
  · show 0 ≤ tA σ 0 k ∧ tA σ 0 k ≤ 255
    rw [e0]
    rw [e1'] at hk
    exact a3 k hk
  · show tg w' (fR w' 7 p) = 101
    rw [e7, t7.1]; exact b1
  · show ln w' (fR w' 7 p) = 1600
    rw [e7, t7.2]; exact b2
  · show fI w' 8 p = tI σ 1
    rw [e8, e1]; exact b3
  · show aI w' (fR w' 7 p) k = sg8 (tA σ 0 k)
    rw [e1'] at hk
    rw [e7, a7, e0]
    exact b4 k hk
theorem TPE.z (h : TPE p w τ) (t7 : tg w' (fR w 7 p) = tg w (fR w 7 p) ∧ ln w' (fR w 7 p) = ln w (fR w 7 p)) (e7 : fR w' 7 p = fR w 7 p) (e8 : fI w' 8 p = 0) (e1 : tI σ 1 = 0) : TPE p w' σ := by
  obtain ⟨⟨a1, a2, a3⟩, ⟨b1, b2, b3, b4⟩, c1, c2⟩ := h
  have e1' : tI σ 1 = 0 := e1
  refine ⟨⟨by rw [e1']; exact Int.le_refl _, by rw [e1']; decide, fun k hk => by rw [e1'] at hk; omega⟩, ⟨?_, ?_, ?_, fun k hk => by rw [e1'] at hk; omega⟩, by rw [e7]; exact c1, by rw [e7]; exact c2⟩
  · show tg w' (fR w' 7 p) = 101
    rw [e7, t7.1]; exact b1
  · show ln w' (fR w' 7 p) = 1600
    rw [e7, t7.2]; exact b2
  · show fI w' 8 p = tI σ 1
    rw [e8, e1]
theorem RES.fr (h : RES p w τ) (t : ∀ r, tg w r ≠ 0 → tg w' r = tg w r ∧ ln w' r = ln w r) (eR : ∀ g, g = 23 ∨ g = 24 ∨ g = 25 ∨ g = 26 → fR w' g p = fR w g p) (a3 : ∀ i, aI w' (fR w 23 p) i = aI w (fR w 23 p) i) (a4 : ∀ i, aI w' (fR w 24 p) i = aI w (fR w 24 p) i) (a6 : tg w (fR w 26 p) = 119 → p + 8 < fR w 26 p → ∀ i, aR w' (fR w 26 p) i = aR w (fR w 26 p) i) (hv : nV τ ≤ nV σ ∧ ∀ v, v < nV τ → vr w' p v = vr w p v) (eT : ∀ g, (119 ≤ g ∧ g ≤ 129) → tI σ g = tI τ g ∧ ∀ i, tA σ g i = tA τ g i) : RES p w' σ := by
  obtain ⟨⟨b1, b2, b3, b4⟩, ⟨c1, c2, c3, c4⟩, h1, ⟨h2, h2', h3⟩, h4⟩ := h
  have t3 := t (fR w 23 p) (by rw [b1]; decide)
  have t4 := t (fR w 24 p) (by rw [c1]; decide)
  have g : ∀ g, (119 ≤ g ∧ g ≤ 129) → tI σ g = tI τ g := fun g hg => (eT g hg).1
  unfold RES
  rw [eR 23 (by decide), eR 24 (by decide), eR 25 (by decide), eR 26 (by decide), t3.1, t3.2, t4.1, t4.2, g 126 (by decide), g 119 (by decide), g 120 (by decide), g 121 (by decide), g 122 (by decide), g 123 (by decide), g 124 (by decide), g 125 (by decide), g 128 (by decide)]
  refine ⟨⟨b1, b2, b3, b4⟩, ⟨c1, c2, c3, c4⟩, ?_, ⟨h2, by rw [a3]; exact h2', fun i q1 q2 => by rw [a4, (eT 127 (by decide)).2]; exact h3 i q1 q2⟩, ?_⟩
  · rw [a3, a3, a3, a3, a3, a3, a3]
    rcases h1 with ⟨q1, q2⟩ | q
    · exact Or.inl ⟨q1, fun i hi => by rw [a3]; exact q2 i hi⟩
    · exact Or.inr q
  · rcases h4 with q | ⟨q0, ⟨m, q1, q2, q3⟩, q4, q5, q6⟩
    · exact Or.inl q
    · have t6 := t (fR w 26 p) (by rw [q4]; decide)
      refine Or.inr ⟨q0, ⟨m, q1, q2, fun i hi => ⟨fun hm => ?_, fun hm => ?_⟩⟩, by rw [t6.1]; exact q4, by rw [t6.2]; exact q5, q6⟩
      · obtain ⟨v, v1, v2, v3⟩ := (q3 i hi).1 hm
        exact ⟨v, by rw [(eT 129 (by decide)).2]; exact v1, Nat.lt_of_lt_of_le v2 hv.1, by rw [a6 q4 q6, hv.2 v v2]; exact v3⟩
      · rw [a6 q4 q6]
        exact (q3 i hi).2 hm
theorem NTX.nt (h : INV p w τ) (hN : NTX p w τ) : NT p w τ := by
  obtain ⟨⟨W, L, -⟩, ⟨T, R, -⟩, -⟩ := h
  obtain ⟨a, ⟨b1, b2, b3⟩, ⟨c1, c2, c3⟩, d, -⟩ := hN
  exact ⟨⟨W, L, T, R⟩, a, ⟨b1, b2⟩, ⟨c1, c2⟩, d⟩
/-- without a text there is a row of kinds all the same -/
theorem NTX.kr (hN : NTX p w τ) : KR p w τ ∧ nK τ = 0 := by
  obtain ⟨a, ⟨b1, b2, b3⟩, ⟨c1, c2, c3⟩, d, -⟩ := hN
  have n0 : nK τ = 0 := by unfold nK; rw [show tI τ 10 = tI τ 10 from rfl, b3]; rfl
  refine ⟨⟨b1, by rw [show tI τ 10 = tI τ 10 from rfl, b3]; exact b2, by rw [show tI τ 10 = tI τ 10 from rfl, b3]; exact Int.le_refl _, by rw [show tI τ 10 = tI τ 10 from rfl, b3]; decide, fun k hk => by omega, fun j k _ hk => by omega, fun k hk => by omega, fun j k hj => by omega⟩, n0⟩
theorem TXS.kr (h : TXS p w τ) : KR p w τ := by
  rcases h with h | h
  · exact h.kr.1
  · exact h.2.1.1
/-- values stay -/
theorem VAL.keep (h : VAL p w τ ∧ VT τ) (W : WF p w) (ho : ∀ r, r ≤ cz w → p + 8 < r → (26 ≤ tg w r ∧ tg w r ≤ 30) ∨ tg w r = 119 → ob w' r = ob w r) (ht : ∀ r, r ≤ cz w → tg w' r = tg w r ∧ ln w' r = ln w r) (hp : fR w' 3 p = fR w 3 p ∧ fI w' 4 p = fI w 4 p) (ha : ∀ i : Nat, aR w' (fR w 3 p) i = aR w (fR w 3 p) i) (hτ : ∀ f, 109 ≤ f → f ≤ 114 → tI σ f = tI τ f ∧ ∀ i, tA σ f i = tA τ f i) (hk : nK τ ≤ nK σ ∧ ∀ k : Nat, k < nK τ → kd w' p k = kd w p k ∧ tA σ 14 k = tA τ 14 k ∧ (∀ j : Nat, j < 4 → tA σ 15 (4 * k + j : Nat) = tA τ 15 (4 * k + j : Nat)) ∧ ∀ o, ofT τ k o → ofT σ k o) : (VAL p w' σ ∧ VT σ) ∧ (nV τ = nV σ ∧ ∀ v, vr w' p v = vr w p v) := by
  have en : nV σ = nV τ := by unfold nV; rw [(hτ 109 (by decide) (by decide)).1]
  refine ⟨⟨h.1.fr W ho ht hp ha (fun f hf => hτ f (by omega) (by omega)) ⟨hk.1, fun k hkk => ⟨(hk.2 k hkk).1, (hk.2 k hkk).2.1⟩⟩, fun v hv => ?_⟩, en.symm, fun v => ?_⟩
  · rw [en] at hv
    exact h.2.keep (fun f v hf _ => (hτ f (by omega) (by omega)).2 _) (fun i _ => (hτ 114 (by decide) (by decide)).2 _) ⟨hk.1, fun k hkk => (hk.2 k hkk).2⟩ hv
  · unfold vr
    rw [hp.1]
    exact ha v
theorem KX.vk (hx : KX τ σ) (hU : UnT τ) (hk : ∀ k, k < nK τ → kd w' p k = kd w p k) : nK τ ≤ nK σ ∧ ∀ k : Nat, k < nK τ → kd w' p k = kd w p k ∧ tA σ 14 k = tA τ 14 k ∧ (∀ j : Nat, j < 4 → tA σ 15 (4 * k + j : Nat) = tA τ 15 (4 * k + j : Nat)) ∧ ∀ o, ofT τ k o → ofT σ k o := ⟨hx.2.1, fun k hkk => ⟨hk k hkk, (hx.2.2 k hkk).2.1, (hx.2.2 k hkk).2.2, fun o ho => (x_ofT hx hU k hkk o).mpr ho⟩⟩
/-- where values are kept -/
theorem VAL.ar (h : VAL p w τ) : tg w (fR w 3 p) = 119 ∧ ln w (fR w 3 p) = 160 ∧ p < fR w 3 p ∧ fR w 3 p ≤ p + 8 := h.1
end ZInv
