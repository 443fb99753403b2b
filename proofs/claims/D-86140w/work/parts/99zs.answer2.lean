/-! an answer that begins with a name, both: its first steps -/
section ZAnswer2
variable {p b e d : Nat} {w : CW} {τ : TW}
/-- the component throws; the reference has read on before it meets its fault -/
theorem OUT.thrF {α β : Type} {T S S' : List Nat} {an at' : Int} {N : α → β → CW → TW → Prop} {cm : (α → CW → Prop) → (Nat → CW → Prop) → Prop} {tm : (β → TW → Prop) → Prop} {how pl : Int} {v : β} {τ' : TW} (h : RB p w τ) (ha : 13 ≤ at') (hc : ∀ Q X, X (cz w + 1) (wrW w how pl) → cm Q X) (hF : FT S' τ τ') (h5 : tI τ 5 ≤ tI τ' 5) (h1 : tI τ' 1 = tI τ 1) (hD : Dd how pl τ') (ht : ∀ Q, Q v τ' → tm Q) : OUT p T S S' an at' N cm tm w τ := by
  refine ⟨wrW w how pl, τ', v, ⟨wrW_fr _ _ _ _, (wrW_st h.1 [] S how pl).2.1, (wrW_st h.1 [] S how pl).2.2.1, hF, h5, h1⟩, ht, Or.inr ⟨how, pl, cz w + 1, ?_, wrW_wr _ _ _, hD, hc⟩⟩
  have e1 : cz (wrW w how pl) = cz w + 1 := rfl
  have e2 : cu (wrW w how pl) = cu w + 8 := rfl
  unfold pot zm
  rw [h1, e1, e2]
  omega
/-- the reference, behind the name and its next token -/
def ansB (call : Nat → List ZA → TW → (ZRes → TW → Prop) → Prop) (Q : TW → Prop) (v9 x2_10 : Int) (u11 : TW) : Prop :=
        ((ff_isSign 40 u11) = 0 →
          (0 ≤ (tI u11 27) ∧ (tI u11 27) < 192) ∧
          ∀ u43 : TW, u43 = sA u11 54 (tI u11 27) 1 →
          (0 ≤ (tI u43 27) ∧ (tI u43 27) < 192) ∧
          ∀ u45 : TW, u45 = sA u43 55 (tI u43 27) v9 →
          ((v9 < 0) ∨ ((i_and (i_shr (tI u45 31) v9) 1) = 0) →
            pT_readAnswer_153 call Q x2_10 u45) ∧
          (¬ ((v9 < 0) ∨ ((i_and (i_shr (tI u45 31) v9) 1) = 0)) →
            (0 ≤ (w32 ((w32 (8 * (tI u45 27))) + v9)) ∧ (w32 ((w32 (8 * (tI u45 27))) + v9)) < 1536) ∧
            ((tA u45 30 (w32 ((w32 (8 * (tI u45 27))) + v9))) = 0 →
              pT_readAnswer_185 call Q u45) ∧
            (¬ ((tA u45 30 (w32 ((w32 (8 * (tI u45 27))) + v9))) = 0) →
              call 13 [ai 5, ai x2_10] u45 (zqV (fun u50 =>
                pT_readAnswer_185 call Q u50) zno)))) ∧
        (¬ ((ff_isSign 40 u11) = 0) →
          (0 ≤ (tI u11 27) ∧ (tI u11 27) < 192) ∧
          ∀ u15 : TW, u15 = sA u11 54 (tI u11 27) 2 →
          call 4 [] u15 (zqV (fun u17 =>
            pT_readAnswer_202 call Q 1 u17) zno))
theorem ans_go (hN : NmR p w τ) (h1 : tI τ 3 = 1) : ∃ σ6, FT [56, 57, 58] τ σ6 ∧ tA σ6 56 (nR τ) = tI τ 4 ∧ tA σ6 57 (nR τ) = tI τ 5 ∧ tA σ6 58 (nR τ) = 0 ∧ (∀ f, 54 ≤ f → ∀ y : Nat, y ≠ nR τ → tA σ6 f y = tA τ f y) ∧ ∀ Q : TW → Prop, wpT (e + 6) 4 [] σ6 (zqV (fun u11 => ansB (wpT (e + 6)) Q (nmB τ (tI τ 4)) (tI τ 5) u11) zno) → wpT (e + 7) 42 [] τ (zqV Q zno) := by
  have r1 : tI τ 27 = nR τ := hN.2.1
  have r2 := hN.2.2.1
  have rg : (0 : Int) ≤ nR τ ∧ (nR τ : Int) < 192 := by omega
  obtain ⟨σ6, h6⟩ : ∃ σ6, σ6 = sA (sA (sA τ 57 (nR τ) (tI τ 5)) 58 (nR τ) 0) 56 (nR τ) (tI τ 4) := ⟨_, rfl⟩
  have F6 : FT [56, 57, 58] τ σ6 := by rw [h6]; exact (((FT.refl _ τ).ssA (by decide)).ssA (by decide)).ssA (by decide)
  obtain ⟨N6, eR6, eN6, eB6⟩ := hN.ft F6 (by decide)
  refine ⟨σ6, F6, ?_, ?_, ?_, fun f hf y hy => ?_, fun Q hh => ?_⟩
  · rw [h6]; simp [tA_sA]
  · rw [h6]; simp [tA_sA]
  · rw [h6]; simp [tA_sA]
  · have n1 : ∀ (g : Nat) (v : Int) (σ0 : TW), tA (sA σ0 g (nR τ) v) f y = tA σ0 f y := fun g v σ0 => by rw [tA_sA, if_neg (fun z => hy (Int.ofNat.inj z.2))]
    rw [h6, n1, n1, n1]
  · refine wT_readAnswer (by omega) (bT_readAnswer_0 ?_)
    rw [r1]
    refine ⟨rg, fun u1 hu1 => ?_⟩
    have q1 : tI u1 27 = nR τ := by rw [hu1]; exact r1
    rw [q1]
    refine ⟨rg, fun u3 hu3 => br1 (by rw [hu3, hu1]; exact h1) ?_⟩
    have q3 : tI u3 27 = nR τ := by rw [hu3]; exact q1
    have q4 : tI u3 4 = tI τ 4 := by rw [hu3, hu1]; rfl
    rw [q3, q4]
    refine ⟨rg, fun u6 hu6 => ?_⟩
    have e6 : u6 = σ6 := by rw [hu6, hu3, hu1, h6]
    subst e6
    refine sT_nameOf (d := e + 5) N6.2.1 N6.2.2.1 N6.2.2.2.1 N6.2.2.2.2.1 (fa ?_)
    rw [eB6, (F6 4 (by decide)).1, (F6 5 (by decide)).1]
    exact hh
/-- a name at hand that must be a whole: is it one -/
theorem sC_wholeCases (h : RB p w τ) (hN : NmR p w τ) (h1 : tI τ 3 = 1) (hroom : cz w + 1 ≤ mz w ∧ cu w + 8 ≤ mu w) :
    (∃ n : Nat, nmB τ (tI τ 4) = n ∧ n < nN τ ∧ bit (tI τ 31) n = 1 ∧ tA τ 30 (8 * nR τ + n : Nat) = 0 ∧ ∀ Q : ZRes → CW → Prop, Q (.inl (some (ai n))) w → wpC p (d + 6) 37 [ar p] w Q) ∨
    (∃ n : Nat, nmB τ (tI τ 4) = n ∧ n < nN τ ∧ bit (tI τ 31) n = 1 ∧ tA τ 30 (8 * nR τ + n : Nat) ≠ 0 ∧ ∀ Q : ZRes → CW → Prop, Q (.inr (cz w + 1)) (wrW w 5 (tI τ 5)) → wpC p (d + 6) 37 [ar p] w Q) ∨
    ((nmB τ (tI τ 4) < 0 ∨ i_and (i_shr (tI τ 31) (nmB τ (tI τ 4))) 1 = 0) ∧ ∀ Q : ZRes → CW → Prop, Q (.inr (cz w + 1)) (wrW w 4 (tI τ 5)) → wpC p (d + 6) 37 [ar p] w Q) := by
  have hh := hN
  obtain ⟨⟨⟨a1, a2, a3, a4⟩, a5, a6, a7, a8⟩, b1, b2, b3, b4, b5, b6, b7, b8, b9, b10⟩ := hN
  have hwd : fI w 12 p = tI τ 4 := h.wd (Or.inl h1)
  have hpl : fI w 11 p = tI τ 5 := h.pl
  by_cases hA : ∃ n : Nat, nmB τ (tI τ 4) = n ∧ bit (tI τ 31) n = 1
  · obtain ⟨n, n1, n2⟩ := hA
    have nlt : n < nN τ := by
      rcases nmB_spec τ (tI τ 4) with ⟨y1, y2⟩ | ⟨k, y1, y2, y3⟩ <;> omega
    have kn : ∀ Q : ZRes → CW → Prop, Q (.inl (some (ai n))) w → wpC p (d + 5) 38 [ar p] w Q := by
      intro Q hQ
      refine sC_known hh n (Or.inl ⟨by rw [hwd]; exact n1, n2⟩) ?_
      rw [if_pos (by omega)]
      exact sC_needOk (by decide) hQ
    have e9 : aN w (fR w 16 p) n = tA τ 30 (8 * nR τ + n : Nat) := by
      unfold aN; rw [if_neg (by rw [a5]; decide)]; exact b9 n nlt
    by_cases hs : tA τ 30 (8 * nR τ + n : Nat) = 0
    · refine Or.inl ⟨n, n1, nlt, n2, hs, fun Q hQ => wC_X0_wholeName (Nat.zero_le _) (kn _ ⟨⟨a5, by omega, by rw [a6]; omega⟩, fa ?_⟩)⟩
      rw [e9, if_pos hs]
      exact sC_needOk (by decide) hQ
    · refine Or.inr (Or.inl ⟨n, n1, nlt, n2, hs, fun Q hQ => wC_X0_wholeName (Nat.zero_le _) (kn _ ⟨⟨a5, by omega, by rw [a6]; omega⟩, fa ?_⟩)⟩)
      rw [e9, if_neg hs, hpl]
      exact sC_needNo rfl hroom hQ
  · refine Or.inr (Or.inr ⟨?_, fun Q hQ => wC_X0_wholeName (Nat.zero_le _) (sC_known hh (nN τ) (Or.inr ⟨rfl, fun k hk => ?_⟩) ?_)⟩)
    · rcases nmB_spec τ (tI τ 4) with ⟨y1, y2⟩ | ⟨k, y1, y2, y3⟩
      · left; omega
      · right
        rw [y2]
        rcases bit_01 hh (k := k) (by omega) with x | x
        · exact x
        · exact absurd ⟨k, y2, x⟩ hA
    · rw [hwd] at hk
      have klt : k < nN τ := by
        rcases nmB_spec τ (tI τ 4) with ⟨y1, y2⟩ | ⟨k, y1, y2, y3⟩ <;> omega
      rcases bit_01 hh (k := k) (by omega) with y | y
      · exact y
      · exact absurd ⟨k, hk, y⟩ hA
    · rw [if_neg (by omega), hpl]
      exact sC_needNo rfl hroom hQ
end ZAnswer2
