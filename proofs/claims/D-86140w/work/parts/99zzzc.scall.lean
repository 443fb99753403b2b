/-! what an answer calls, judged: the component's half -/
section ZScall
variable {p b e d : Nat} {w : CW} {τ : TW}
/-- the sort of what is handed at the place k by the rule R -/
def hdS (τ : TW) (R k : Nat) : Int := tA τ 30 (8 * R + (tA τ 59 (3 * R + k : Nat)).toNat : Nat)
def fit (τ : TW) (s t : Int) : Prop := s = t ∨ (¬ s < 3 ∧ ¬ t < 3 ∧ ofT τ (s - 3) (t - 3))
noncomputable def jk (τ : TW) (R g k : Nat) : Int × Int := @ite _ (fit τ (hdS τ R k) (tA τ 44 (3 * g + k : Nat))) (Classical.propDecidable _) (0, 0) (5, tA τ 60 (3 * R + k : Nat))
theorem jk_1 {R g k : Nat} (h : fit τ (hdS τ R k) (tA τ 44 (3 * g + k : Nat))) : jk τ R g k = (0, 0) := by unfold jk; rw [if_pos h]
theorem jk_0 {R g k : Nat} (h : ¬ fit τ (hdS τ R k) (tA τ 44 (3 * g + k : Nat))) : jk τ R g k = (5, tA τ 60 (3 * R + k : Nat)) := by unfold jk; rw [if_neg h]
/-- the first that is wrong of a call -/
noncomputable def jc (τ : TW) (R : Nat) : Int × Int :=
  if fnB τ (tA τ 56 R) = -4 then (4, tA τ 57 R) else if tA τ 58 R = tA τ 43 (fnB τ (tA τ 56 R)) then ff (jk τ R (fnB τ (tA τ 56 R)).toNat) (tA τ 43 (fnB τ (tA τ 56 R))).toNat else (6, tA τ 57 R)
theorem jc_4 {R : Nat} (h : fnB τ (tA τ 56 R) = -4) : jc τ R = (4, tA τ 57 R) := if_pos h
theorem jc_6 {R g : Nat} (h : fnB τ (tA τ 56 R) = g) (h2 : tA τ 58 R ≠ tA τ 43 g) : jc τ R = (6, tA τ 57 R) := by
  unfold jc
  rw [if_neg (by omega), h, if_neg h2]
theorem jc_5 {R g m : Nat} (h : fnB τ (tA τ 56 R) = g) (h2 : tA τ 58 R = tA τ 43 g) (h3 : tA τ 43 g = m) : jc τ R = ff (jk τ R g) m := by
  unfold jc
  rw [if_neg (by omega), h, if_pos h2, h3]
  rfl
/-- what a rule's object says of its call -/
def SCF (p : Nat) (w : CW) (τ : TW) (R x : Nat) : Prop := (tg w x = 5 ∧ fI w 63 x = tA τ 56 R ∧ fI w 64 x = tA τ 57 R ∧ IArr p w (fR w 67 x) 8) ∧
  ∃ m : Nat, (tA τ 58 R = m ∧ m ≤ 800 ∧ IArr p w (fR w 62 x) m ∧ IArr p w (fR w 65 x) m) ∧ ∀ j : Nat, j < m → j < 3 → ∃ n : Nat, n < 8 ∧ tA τ 59 (3 * R + j : Nat) = n ∧ aI w (fR w 62 x) j = n ∧ aI w (fR w 65 x) j = tA τ 60 (3 * R + j : Nat) ∧ aI w (fR w 67 x) n = hdS τ R j ∧ 0 ≤ hdS τ R j ∧ hdS τ R j < 3 + nK τ
/-- what the functions' objects say of their columns -/
def FCF (p : Nat) (w : CW) (τ : TW) : Prop := ∀ g, g < nF τ → tg w (fnr w p g) = 4 ∧ ∃ m : Nat, tA τ 43 g = m ∧ fI w 46 (fnr w p g) = m ∧ 1 ≤ m ∧ m ≤ 3 ∧ IArr p w (fR w 45 (fnr w p g)) 3 ∧ ∀ j : Nat, j < m → aI w (fR w 45 (fnr w p g)) j = tA τ 44 (3 * g + j : Nat) ∧ 0 ≤ tA τ 44 (3 * g + j : Nat) ∧ tA τ 44 (3 * g + j : Nat) < 3 + nK τ
theorem FN.fcf (h : FN p w τ) : FCF p w τ := fun g hg => by
  obtain ⟨lo, hi, m, k, h1, h2, h3, h4, -⟩ := h.fl hg
  obtain ⟨⟨a1, a2, a3, a4, a5⟩, ⟨b1, b2⟩, -⟩ := h1
  obtain ⟨c1, c2, c3, c4⟩ := h2
  refine ⟨a1, m, c1, c2, h3, c3, by rw [b1]; exact b2, fun j hj => ?_⟩
  rw [b1]
  exact c4 j hj
theorem FN.scf {f i x lo hi : Nat} (h : FN p w τ) (hK : KR p w τ) (hf : f < nF τ) (hr : RuR p w τ f i x lo hi) (h2 : tA τ 54 (16 * f + i : Nat) = 2) : SCF p w τ (16 * f + i) x ∧ fR w 62 x ≠ 0 := by
  have hkp : ∀ k, k < nK τ → ∀ j : Nat, (j : Int) < tA τ 14 k → 0 ≤ tA τ 15 (4 * k + j : Nat) ∧ tA τ 15 (4 * k + j : Nat) < 3 + nK τ := fun k hk j hj => ((hK.2.2.2.2.1 k hk).2.2.2.2.2.2.2.2.2.2.2 j hj).2
  obtain ⟨_, m0, hm0, hm1, -, -, -, hcol⟩ := h.fcf f hf
  obtain ⟨⟨a1, a2, a3, a4⟩, kn, ⟨b1, b2, b3, b4⟩, ⟨m, N, c, Di, ⟨c1, c2, c3, c4, c5, c6⟩, ⟨d1, d2, d3, d4, d5⟩, e1, e2, e3⟩, g1, g2⟩ := hr
  have em : m = m0 := by omega
  have sn : ∀ n, n < kn → 0 ≤ SnT τ (16 * f + i) n ∧ SnT τ (16 * f + i) n < 3 + nK τ := fun n hn => by
    obtain ⟨j, hj, hD⟩ := (e3 n).mp hn
    refine PRel.sn hkp _ _ _ _ _ (d5 j hj) ?_ n hD
    rw [e1 j hj]
    exact (hcol j (by omega)).2
  rcases g2 with ⟨h, -⟩ | ⟨h, -⟩ | ⟨-, q1, q2, k, A, C, q3, q4, q5, q6, q7, q8, q9, q10, q11, q12⟩
  · omega
  · omega
  · subst q6; subst q7
    refine ⟨⟨⟨a1, q1, q2, b3⟩, k, ⟨q5, q4, q8, q9⟩, fun j hj h3 => ?_⟩, by omega⟩
    obtain ⟨n, n1, n2, n3, n4⟩ := q12 j hj
    obtain ⟨n5, n6⟩ := n4 h3
    have eh : hdS τ (16 * f + i) j = SnT τ (16 * f + i) n := by
      unfold hdS SnT
      rw [n5]
      rfl
    rw [eh]
    exact ⟨n, n2, n5, n1, n6.symm, b4 n n3, sn n n3⟩
theorem sC_settleCall {R x : Nat} (hN : FNm p w τ) (hF : FCF p w τ) (hS : SCF p w τ R x) (hK : KR p w τ) (W : WF p w) (hm : cz w + 1 ≤ mz w ∧ cu w + 8 ≤ mu w) {Q : ZRes → CW → Prop} (h0 : (jc τ R).1 = 0 → ∀ g : Nat, fnB τ (tA τ 56 R) = g → g < nF τ → Q (.inl none) (pR w 66 x (fnr w p g))) (h1 : (jc τ R).1 ≠ 0 → Q (.inr (cz w + 1)) (wrW w (jc τ R).1 (jc τ R).2)) : wpC p (d + 5) 42 [ar p, ar x] w Q := by
  obtain ⟨⟨a1, a2, a3, a4⟩, m, ⟨b1, b2, b3, b4⟩, b5⟩ := hS
  have eN : ∀ r (i : Int), tg w r = 102 → aN w r i = aI w r i := fun r i h => if_neg (by rw [h]; decide)
  refine wC_X0_settleCall (Nat.zero_le _) (bC_X0_settleCall_0 ⟨by rw [a1]; decide, ?_⟩)
  rw [a2]
  rcases fnN_spec (tA τ 56 R) (nF τ) (τ := τ) with ⟨z, -⟩ | ⟨g, hg, z, -⟩
  · have ej := jc_4 (R := R) (τ := τ) z
    refine sC_functionOf hN 0 (Or.inl ⟨z, rfl⟩) (fa ⟨by rw [a1]; decide, ?_⟩)
    rw [if_neg (by simp), a3]
    refine sC_needNo rfl hm ?_
    rw [ej] at h1
    exact h1 (show (4 : Int) ≠ 0 by decide)
  · have z : fnB τ (tA τ 56 R) = g := z
    obtain ⟨f1, n, f2, f3, f4, f5, f6, f7⟩ := hF g hg
    have hne : fnr w p g ≠ 0 := fun y => by rw [y, W.1] at f1; exact absurd f1 (by decide)
    refine sC_functionOf hN (fnr w p g) (Or.inr ⟨g, z, hg, rfl⟩) (fa ⟨by rw [a1]; decide, ?_⟩)
    rw [if_pos hne, a3]
    refine sC_needOk (by decide) ⟨by rw [f1]; decide, by rw [a1]; decide, by rw [b3.1]; decide, fa ⟨by rw [a1]; decide, ?_⟩⟩
    rw [f3, b3.2.1, a3]
    by_cases y : (n : Int) = (m : Nat)
    · rw [if_pos y]
      have enm : n = m := by omega
      subst enm
      have ej := jc_5 (R := R) (g := g) (m := n) (τ := τ) z (by omega) f2
      rw [ej] at h0 h1
      refine sC_needOk (by decide) (bC_X0_settleCall_56 ?_)
      intro I hI
      have key : ∀ k j : Nat, j + k = n → (ff (jk τ R g) j).1 = 0 → I (j : Int) w := by
        intro k
        induction k with
        | zero =>
          intro j hj hz
          have e : j = n := by omega
          rw [e] at hz ⊢
          refine hI _ _ ⟨by rw [f1]; decide, br1 (by rw [f3]; omega) (bC_X0_settleCall_148 ⟨by rw [a1]; decide, fa ?_⟩)⟩
          exact h0 hz g z hg
        | succ k ih =>
          intro j hj hz
          obtain ⟨nn, n1, n2, n3, n4, n5, n6, n7⟩ := b5 j (by omega) (by omega)
          obtain ⟨t1, t2, t3⟩ := f7 j (by omega)
          have hj3 : (j : Int) < 3 := by omega
          have yes : fit τ (hdS τ R j) (tA τ 44 (3 * g + j : Nat)) → pC_X0_settleCall_132 p (wpC p (d + 4)) (fun w => Q (.inl none) w) (fun x w => Q (.inr x) w) I x (fnr w p g) j 1 p w := fun hfit => by
            refine bC_X0_settleCall_132 ⟨by rw [a1]; decide, ⟨b4.1, by omega, by rw [b4.2.1]; omega⟩, W.2.1, sC_needOk (by decide) (fa ?_)⟩
            rw [w32_s (by omega) (by omega)]
            have := ih (j + 1) (by omega) (by rw [ff_go hz, jk_1 hfit])
            exact this
          have no : ¬ fit τ (hdS τ R j) (tA τ 44 (3 * g + j : Nat)) → pC_X0_settleCall_132 p (wpC p (d + 4)) (fun w => Q (.inl none) w) (fun x w => Q (.inr x) w) I x (fnr w p g) j 0 p w := fun hfit => by
            have e := ff_stop hz (by rw [jk_0 hfit]; exact (show (5 : Int) ≠ 0 by decide)) (show j < n by omega)
            rw [jk_0 hfit] at e
            rw [e] at h1
            refine bC_X0_settleCall_132 ⟨by rw [a1]; decide, ⟨b4.1, by omega, by rw [b4.2.1]; omega⟩, W.2.1, sC_needNo rfl hm ?_⟩
            rw [eN _ _ b4.1, n4]
            exact h1 (show (5 : Int) ≠ 0 by decide)
          refine hI _ _ ⟨by rw [f1]; decide, br0 (by rw [f3]; omega) ⟨by rw [a1]; decide, by rw [a1]; decide, ⟨b3.1, by omega, by rw [b3.2.1]; omega⟩, ?_⟩⟩
          rw [eN _ _ b3.1, n3]
          refine ⟨⟨a4.1, by omega, by rw [a4.2.1]; omega⟩, fa ⟨by rw [f1]; decide, ⟨f6.1, by omega, by rw [f6.2.1]; omega⟩, fa ?_⟩⟩
          rw [eN _ _ a4.1, eN _ _ f6.1, n5, t1]
          by_cases st : hdS τ R j = tA τ 44 (3 * g + j : Nat)
          · exact br1 st (bC_X0_settleCall_127 (yes (Or.inl st)))
          refine br0 st (sC_isKind ?_)
          by_cases s3 : hdS τ R j < 3
          · rw [if_neg (fun q => q s3)]
            exact br1 rfl (bC_X0_settleCall_131 (no (fun hf => hf.elim st (fun q => q.1 s3))))
          rw [if_pos s3]
          refine br0 (by decide) (sC_isKind ?_)
          by_cases t3' : tA τ 44 (3 * g + j : Nat) < 3
          · rw [if_neg (fun q => q t3')]
            exact br1 rfl (bC_X0_settleCall_131 (no (fun hf => hf.elim st (fun q => q.2.1 t3'))))
          rw [if_pos t3']
          obtain ⟨u, hu⟩ : ∃ u : Nat, hdS τ R j = 3 + (u : Int) := ⟨(hdS τ R j - 3).toNat, by omega⟩
          obtain ⟨v, hv⟩ : ∃ v : Nat, tA τ 44 (3 * g + j : Nat) = 3 + (v : Int) := ⟨(tA τ 44 (3 * g + j : Nat) - 3).toNat, by omega⟩
          have hu2 : u < nK τ := by omega
          have hv2 : v < nK τ := by omega
          refine br0 (by decide) (sC_kindOf hK hu hu2 (sC_kindOf hK hv hv2 ⟨(hK.2.2.2.2.1 u hu2).1, sC_is hK W hu2 hv2 ?_⟩))
          by_cases o : ofT τ u v
          · rw [ofB_1 o]
            refine br0 (by decide) (bC_X0_settleCall_127 (yes (Or.inr ⟨s3, t3', ?_⟩)))
            rw [hu, hv, show (3 + (u : Int) - 3) = u by omega, show (3 + (v : Int) - 3) = v by omega]
            exact o
          · rw [ofB_0 o]
            refine br1 rfl (bC_X0_settleCall_131 (no (fun hf => hf.elim st (fun q => o ?_))))
            have := q.2.2
            rw [hu, hv, show (3 + (u : Int) - 3) = u by omega, show (3 + (v : Int) - 3) = v by omega] at this
            exact this
      exact key n 0 (by omega) rfl
    · rw [if_neg y]
      have ej := jc_6 (R := R) (g := g) (τ := τ) z (by omega)
      rw [ej] at h1
      refine sC_needNo rfl hm ?_
      exact h1 (show (6 : Int) ≠ 0 by decide)
end ZScall
