/-! what a text leaves alone; what stands when a text is judged -/
section ZVf
variable {p b e d : Nat} {w : CW} {τ : TW}
/-- all but a text's own objects and the LetterPost stays -/
def VF (p : Nat) (w w' : CW) : Prop := (cz w ≤ cz w' ∧ cu w ≤ cu w' ∧ w'.2.2.2.2.2.2.2.2 = w.2.2.2.2.2.2.2.2) ∧ (∀ r, r ≤ cz w → tg w' r = tg w r ∧ ln w' r = ln w r) ∧
  ∀ r, r ≤ cz w → r ≠ p → (tg w r < 3 ∨ 5 < tg w r) → r ≠ fR w 0 p → r ≠ fR w 5 p → r ≠ fR w 15 p → r ≠ fR w 16 p → ob w' r = ob w r
theorem VF.of {w' : CW} (h : Frb (cz w) (p :: TRD p w) w w') : VF p w w' := by
  refine ⟨⟨h.1, h.2.1, h.2.2.1⟩, h.2.2.2.1, fun r h1 h2 h3 h4 h5 h6 h7 => h.2.2.2.2 r h1 (fun y => ?_)⟩
  unfold TRD at y
  rcases List.mem_cons.mp y with y | y
  · exact h2 y
  rcases List.mem_cons.mp y with y | y
  · exact h4 y
  rcases List.mem_cons.mp y with y | y
  · exact h5 y
  rcases List.mem_cons.mp y with y | y
  · exact h6 y
  rcases List.mem_cons.mp y with y | y
  · exact h7 y
  have := of_decide_eq_true (List.mem_filter.mp y).2
  omega
theorem VF.step {w1 w2 : CW} (h : VF p w w1) (hz : cz w1 ≤ cz w2 ∧ cu w1 ≤ cu w2 ∧ w2.2.2.2.2.2.2.2.2 = w1.2.2.2.2.2.2.2.2) (ht : ∀ r, r ≤ cz w1 → tg w2 r = tg w1 r ∧ ln w2 r = ln w1 r) (ho : ∀ r, r ≤ cz w1 → r ≠ p → (tg w1 r < 3 ∨ 5 < tg w1 r) → r ≠ fR w 0 p → r ≠ fR w 5 p → r ≠ fR w 15 p → r ≠ fR w 16 p → ob w2 r = ob w1 r) : VF p w w2 := by
  obtain ⟨⟨a1, a2, a3⟩, a4, a5⟩ := h
  refine ⟨⟨Nat.le_trans a1 hz.1, Nat.le_trans a2 hz.2.1, hz.2.2.trans a3⟩, fun r hr => ⟨(ht r (by omega)).1.trans (a4 r hr).1, (ht r (by omega)).2.trans (a4 r hr).2⟩, fun r h1 h2 h3 h4 h5 h6 h7 => (ho r (by omega) h2 (by rw [(a4 r h1).1]; exact h3) h4 h5 h6 h7).trans (a5 r h1 h2 h3 h4 h5 h6 h7)⟩
theorem VF.fr {w1 w2 : CW} (h : VF p w w1) (F : Fr [p] w1 w2) : VF p w w2 := h.step ⟨F.1, F.2.1, F.2.2.1⟩ F.2.2.2.1 (fun r h1 h2 _ _ _ _ _ => F.2.2.2.2 r h1 (fun y => h2 (List.mem_singleton.mp y)))
theorem VF.w66 {w1 : CW} {h : Nat → Nat} (V : VF p w w1) (H : HFr w1 h) : VF p w (w66 w1 h) := by
  refine V.step ⟨Nat.le_refl _, Nat.le_refl _, rfl⟩ (fun r _ => ⟨rfl, rfl⟩) (fun r h1 h2 h3 h4 h5 h6 h7 => ?_)
  have e := H r (by omega)
  unfold ob
  refine Prod.ext rfl (Prod.ext rfl (Prod.ext rfl (Prod.ext (funext fun f => ?_) rfl)))
  show (if f = 66 then h r else fR w1 f r) = fR w1 f r
  by_cases z : f = 66
  · rw [if_pos z, z]; exact e
  · rw [if_neg z]
/-- what is known of a rule that calls -/
def CAL (p : Nat) (w : CW) (τ : TW) (f i : Nat) : Prop := tA τ 54 (16 * f + i : Nat) = 2 → ∃ g m : Nat, tA τ 55 (16 * f + i : Nat) = g ∧ g < nF τ ∧ fR w 66 (rl w p f i) = fnr w p g ∧ tA τ 58 (16 * f + i : Nat) = m ∧ tA τ 43 g = m ∧ ∀ k, k < m → fit τ (hdS τ (16 * f + i) k) (tA τ 44 (3 * g + k : Nat))
/-- a text stands: read, judged -/
def SET (p : Nat) (w : CW) (τ : TW) : Prop := (WF p w ∧ Lit p w) ∧ KR p w τ ∧ NA p w ∧ FN p w τ ∧ (∀ f i, f < nF τ → i < rk τ f → CAL p w τ f i) ∧ ∀ f, f < nF τ → tA τ 46 f = sumR τ f (rk τ f) ∧ sumR τ f (rk τ f) ≤ 40
theorem jall_sum (hN : FN p w τ) (hj : (jall τ).1 = 0) {f : Nat} (hf : f < nF τ) : sumR τ f (rk τ f) ≤ 40 := by
  unfold jall at hj
  split at hj
  · have h2 := ff_zero _ hj f hf
    rcases Nat.eq_zero_or_pos (rk τ f) with z | z
    · rw [z]; exact (by decide : (0 : Int) ≤ 40)
    · have := ff_zero _ h2 (rk τ f - 1) (by omega)
      unfold rchk at this
      rw [show rk τ f - 1 + 1 = rk τ f by omega] at this
      by_cases y : 40 < sumR τ f (rk τ f)
      · rw [if_pos y] at this
        exact absurd this (show (9 : Int) ≠ 0 by decide)
      · omega
  · rename_i y
    exact absurd hj y
theorem jall_call (hN : FN p w τ) (hj : (jall τ).1 = 0) {f i : Nat} (hf : f < nF τ) (hi : i < rk τ f) (h2 : tA τ 54 (16 * f + i : Nat) = 2) {g : Nat} (hg : fnB τ (tA τ 56 (16 * f + i : Nat)) = g) (hgn : g < nF τ) : ∃ m : Nat, tA τ 58 (16 * f + i : Nat) = m ∧ tA τ 43 g = m ∧ ∀ k, k < m → fit τ (hdS τ (16 * f + i) k) (tA τ 44 (3 * g + k : Nat)) := by
  have h1 : (all1 τ (nF τ)).1 = 0 := by
    unfold jall at hj
    split at hj
    · rename_i y; exact y
    · exact hj
  have hc := ff_zero _ (ff_zero _ h1 f hf) i hi
  have ec : chk τ f i = jc τ (16 * f + i) := if_pos h2
  rw [ec] at hc
  obtain ⟨-, m, m1, -⟩ := hN.fcf g hgn
  by_cases y : tA τ 58 (16 * f + i : Nat) = tA τ 43 g
  · rw [jc_5 hg y m1] at hc
    refine ⟨m, y.trans m1, m1, fun k hk => ?_⟩
    have := ff_zero _ hc k hk
    by_cases z : fit τ (hdS τ (16 * f + i) k) (tA τ 44 (3 * g + k : Nat))
    · exact z
    · rw [jk_0 z] at this
      exact absurd this (show (5 : Int) ≠ 0 by decide)
  · rw [jc_6 hg y] at hc
    exact absurd hc (show (6 : Int) ≠ 0 by decide)
theorem t4_fit {a b' : Int} {A B : Int → Int} {s t : Int} : fit (t4 τ a b' A B) s t ↔ fit τ s t := by
  unfold fit ofT
  simp only [t4_up]
theorem SET.mk {h : Nat → Nat} {a b' : Int} {A B : Int → Int} (W : WF p w) (L : Lit p w) (hK : KR p w τ) (hNA : NA p w) (hN : FN p w τ) (hj : (jall τ).1 = 0) (hO : ∀ f i, f < nF τ → i < rk τ f → OKR w τ p h f i) (hB : BX τ B) (hA : DA τ A (nF τ)) (hO2 : ∀ f i, f < nF τ → i < rk τ f → OKB τ B f i) : SET p (w66 w h) (t4 τ a b' A B) := by
  refine ⟨⟨W, L⟩, ?_, hNA, ?_, fun f i hf hi => ?_, fun f hf => ?_⟩
  · have : KR p (w66 w h) τ := hK
    exact t4_kr this
  · refine t4_fn hB ?_
    rw [w66_fn]
    exact hN
  · intro h2
    have h2 : tA τ 54 (16 * f + i : Nat) = 2 := h2
    obtain ⟨g, g1, g2, g3⟩ := hO f i hf hi h2
    obtain ⟨m, m1, m2, m3⟩ := jall_call hN hj hf hi h2 g1 g2
    exact ⟨g, m, (hO2 f i hf hi h2).trans g1, g2, g3, m1, m2, fun k hk => t4_fit.mpr (m3 k hk)⟩
  · have e : ∀ n, sumR (t4 τ a b' A B) f n = sumR τ f n := by
      intro n
      induction n with
      | zero => rfl
      | succ n ih =>
        unfold sumR
        rw [ih]
        rfl
    have er : rk (t4 τ a b' A B) f = rk τ f := rfl
    rw [er, e]
    exact ⟨(show A f = _ by rw [show A = AsF τ (nF τ) from hA]; exact AsF_at _ _ hf), jall_sum hN hj hf⟩
end ZVf
