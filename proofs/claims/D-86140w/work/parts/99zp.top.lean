/-! a pattern of a rule, both: the top -/
section ZTop
variable {p b e d : Nat} {w : CW} {τ : TW}
/-- an outcome, and what is told of the reference's answer where it is dead -/
def OUTd {α β : Type} (p : Nat) (T S S' : List Nat) (an at' : Int) (N : α → β → CW → TW → Prop) (G : β → TW → Prop) (cm : (α → CW → Prop) → (Nat → CW → Prop) → Prop) (tm : (β → TW → Prop) → Prop) (w : CW) (τ : TW) : Prop :=
  ∃ w' τ' b, CF p T S S' w τ w' τ' ∧ (∀ Q, Q b τ' → tm Q) ∧ ((∃ a, RB p w' τ' ∧ pot w' τ' ≤ pot w τ + an ∧ N a b w' τ' ∧ ∀ Q X, Q a w' → cm Q X) ∨ (∃ h pl x, pot w' τ' ≤ pot w τ + at' ∧ Wr w' x h pl ∧ (Dd h pl τ' ∧ G b τ') ∧ ∀ Q X, X x w' → cm Q X))
theorem pr_pattern {M : Nat} {s much : Int} (hb : b ≤ cz w) (rb : RB p w τ) (h : PS p (pI w 20 p 0) (sI τ 32 0) 0) (hmuch : much = if ¬ ((fI w 20 p) = 0) ∨ (¬ ((fI w 19 p) < 6)) then 1 else 0) (hs0 : 0 ≤ s) (hs : s < 3 + nK τ) (hR : Rm 2000 w τ) (hM : 39 ≤ M) :
    OUTd p [fR w 15 p, fR w 16 p] SPC SPT (-5700) 400 (fun r (q : Int) w' τ' => much = 0 ∧ PA p b 6 (sI τ 32 0) s 0 r (q, 1) w' τ') (fun q τ' => RG τ' q) (fun Q X => wpC p M 22 [ar p, ai s] w (zqR Q X)) (fun Q => wpT (e + 9) 24 [ai s, ai much] τ (zqI (fun v u => Q v u) zno)) w τ := by
  obtain ⟨τ0, h0⟩ : ∃ τ0, τ0 = sI τ 32 0 := ⟨_, rfl⟩
  rw [← h0] at h ⊢
  have F0 : FT [32] τ τ0 := by rw [h0]; exact (FT.refl _ _).ssI (by decide)
  have rb0 := rb.ft F0 (by decide)
  have eK : nK τ0 = nK τ := by unfold nK; rw [(F0 10 (by decide)).1]
  have c0 : CF p [] [] [32] w τ w τ0 := ⟨Fr.refl _ _, PF.refl _ _ _, rb.1, F0, Int.le_of_eq (F0 5 (by decide)).1.symm, (F0 1 (by decide)).1⟩
  have ep : ∀ u : CW, pot u τ0 = pot u τ := fun u => by
    unfold pot
    rw [show tI τ0 1 = tI τ 1 from (F0 1 (by decide)).1, show tI τ0 5 = tI τ 5 from (F0 5 (by decide)).1]
  have hR0 : Rm 2000 w τ0 := by
    unfold Rm at hR ⊢
    rw [ep]
    exact hR
  obtain ⟨w', τ', b', hc, run, g⟩ := pth (p := p) (e := e) 6 0 (by decide) w τ0 s much b M hb rb0 h hmuch hs0 (by rw [eK]; exact hs) hR0 (by omega)
  have hcT : CF p [fR w 15 p, fR w 16 p] SPC SPT w τ w' τ' := (c0.mono rb.1 (T := [fR w 15 p, fR w 16 p]) (S := SPC) (S' := SPT) (fun r hr => by cases hr) (fun f hf => by cases hf) (by decide)).trans hc (fun r hr => Or.inl hr) (fun f hf => hf) (fun f hf => hf)
  have go : ∀ Q : Int → TW → Prop, (RG τ' b'.1 → Q b'.1 τ') → (tI τ' 7 = 0 → tI τ' 3 ≠ 7 → tI τ' 32 = 0 ∧ RG τ' b'.1) → wpT (e + 9) 24 [ai s, ai much] τ (zqI (fun v u => Q v u) zno) := by
    intro Q hQ hal
    refine wT_readPattern (by omega) (fun u1 hu => ?_)
    rw [← h0] at hu
    subst hu
    refine run (fun b u => b = b' ∧ u = τ') ⟨rfl, rfl⟩ (fun v x4 u => pT_readPattern_15 (wpT (e + 8)) (fun v w => Q v w) v x4 u) (fun v w => Q v w) (fun v x4 u kk I15 cl => kk I15 cl (fun q u hq a c => ?_)) (fun x u hq hr => ?_)
    · obtain ⟨q1, q2⟩ := hq
      subst q1
      subst q2
      exact br1 a (br1 (hal a c).1 (hQ (hal a c).2))
    · obtain ⟨q1, q2⟩ := hq
      subst q1
      subst q2
      exact hQ hr
  rcases g with ⟨a, g1, g2, g3, g4⟩ | ⟨hw, pl, x, g1, g2, g3, g4⟩
  · have hb1 : b' = (b'.1, 1) := by
      have := g3.2.1
      rw [this]
    have hr : RG τ' b'.1 := by
      have e1 : b'.1 = ((np τ0 : Nat) : Int) := by rw [g3.2.1]
      have P := g3.2.2.1
      have n1 := P.2.2.2.2.1
      have n2 := g1.rg
      have n3 := g3.2.2.2.1
      refine Or.inr ⟨by rw [e1]; omega, ?_⟩
      rw [e1]
      have q1 : tI τ' 5 = tI τ' 5 := rfl
      omega
    refine ⟨w', τ', b'.1, hcT, fun Q hQ => go Q (fun _ => hQ) (fun _ _ => ⟨g3.2.2.1.2.2.2.2.2.1, hr⟩), Or.inl ⟨a, g1, by rw [← ep w]; exact g2, ?_, g4⟩⟩
    show much = 0 ∧ PA p b 6 τ0 s 0 a (b'.1, 1) w' τ'
    rw [← hb1]
    exact g3
  · have no : tI τ' 7 = 0 → tI τ' 3 ≠ 7 → tI τ' 32 = 0 ∧ RG τ' b'.1 := fun a c => by
      rcases g3.cs with y | y
      · exact absurd a y
      · exact absurd y.2 c
    by_cases hr : RG τ' b'.1
    · exact ⟨w', τ', b'.1, hcT, fun Q hQ => go Q (fun _ => hQ) no, Or.inr ⟨hw, pl, x, by rw [← ep w]; exact g1, g2, ⟨g3, hr⟩, g4⟩⟩
    · exact ⟨w', τ', 0, hcT, fun Q _ => go Q (fun y => absurd y hr) no, Or.inr ⟨hw, pl, x, by rw [← ep w]; exact g1, g2, ⟨g3, Or.inr ⟨by decide, by decide⟩⟩, g4⟩⟩
end ZTop
