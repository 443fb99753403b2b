/-! an answer that is a name, both: where it is none -/
section ZAnswer3
variable {p b e d : Nat} {w : CW} {τ : TW}
theorem ans_no {α : Type} {T S : List Nat} {a0 t0 : Int} {N : α → Unit → CW → TW → Prop} {cm : (α → CW → Prop) → (Nat → CW → Prop) → Prop} {σ6 τ' : TW} {k : Int} (rb : RB p w τ) (hN : NmR p w τ) (F6 : FT [56, 57, 58] τ σ6) (F' : FT [2, 3, 4, 5, 6] σ6 τ') (h5 : tI τ 5 ≤ tI τ' 5) (run : ∀ Q, Q (.inl none) τ' → wpT (e + 6) 4 [] σ6 Q) (s40 : ff_isSign 40 τ' = 0) (ht : 13 ≤ t0) (hc : ∀ Q X, X (cz w + 1) (wrW w k (tI τ 5)) → cm Q X)
    (hk : (k = 4 ∧ (nmB τ (tI τ 4) < 0 ∨ i_and (i_shr (tI τ 31) (nmB τ (tI τ 4))) 1 = 0)) ∨ (k = 5 ∧ ∃ n : Nat, nmB τ (tI τ 4) = n ∧ n < nN τ ∧ bit (tI τ 31) n = 1 ∧ tA τ 30 (8 * nR τ + n : Nat) ≠ 0))
    (go : ∀ Q : TW → Prop, wpT (e + 6) 4 [] σ6 (zqV (fun u11 => ansB (wpT (e + 6)) Q (nmB τ (tI τ 4)) (tI τ 5) u11) zno) → wpT (e + 7) 42 [] τ (zqV Q zno)) :
    OUT p T S [2, 3, 4, 5, 6, 7, 8, 54, 55, 56, 57, 58] a0 t0 N cm (fun Q => wpT (e + 7) 42 [] τ (zqV (Q ()) zno)) w τ := by
  have r1 : tI τ 27 = nR τ := hN.2.1
  have r2 := hN.2.2.1
  have nle := hN.2.2.2.2.1
  have rg : (0 : Int) ≤ nR τ ∧ (nR τ : Int) < 192 := by omega
  have G : FT [2, 3, 4, 5, 6, 56, 57, 58] τ τ' := (F6.mono (by decide)).trans (F'.mono (by decide))
  obtain ⟨u45, h45⟩ : ∃ u45, u45 = sA (sA τ' 54 (nR τ) 1) 55 (nR τ) (nmB τ (tI τ 4)) := ⟨_, rfl⟩
  have F45 : FT [54, 55] τ' u45 := by rw [h45]; exact ((FT.refl _ _).ssA (by decide)).ssA (by decide)
  have e27 : tI τ' 27 = nR τ := (G 27 (by decide)).1.trans r1
  have e31 : tI u45 31 = tI τ 31 := (F45 31 (by decide)).1.trans (G 31 (by decide)).1
  have e07 : tI u45 7 = 0 := ((F45 7 (by decide)).1.trans (G 7 (by decide)).1).trans rb.f0
  obtain ⟨σ', ⟨q1, q2, q3⟩, runF⟩ := sT_fails (d := e + 5) (τ := u45) (k := k) (pl := tI τ 5)
  have D := q2 e07 (by rcases hk with y | y <;> omega)
  have FA : FT [2, 3, 4, 5, 6, 7, 8, 54, 55, 56, 57, 58] τ σ' := (G.mono (by decide)).trans ((F45.mono (by decide)).trans (q1.mono (by decide)))
  refine OUT.thrF (v := ()) rb ht hc FA ?_ (FA 1 (by decide)).1 D (fun Q hQ => go _ (run _ (br1 s40 ?_)))
  · have y1 : tI σ' 5 = tI τ' 5 := (q1 5 (by decide)).1.trans (F45 5 (by decide)).1
    show tI τ 5 ≤ tI σ' 5
    omega
  · rw [e27]
    refine ⟨rg, fun u1 hu1 => ?_⟩
    have q27 : tI u1 27 = nR τ := by rw [hu1]; exact e27
    rw [q27]
    refine ⟨rg, fun u2 hu2 => ?_⟩
    have e2 : u2 = u45 := by rw [hu2, hu1, h45]
    subst e2
    rw [e31]
    rcases hk with ⟨y1, y2⟩ | ⟨y1, n, n1, n2, n3, n4⟩
    · subst y1
      exact br1 y2 (bT_readAnswer_153 (runF _ hQ))
    · subst y1
      have hgo : ¬ (nmB τ (tI τ 4) < 0 ∨ i_and (i_shr (tI τ 31) (nmB τ (tI τ 4))) 1 = 0) := by
        rw [n1]
        have : i_and (i_shr (tI τ 31) (n : Int)) 1 = bit (tI τ 31) n := rfl
        rw [this, n3]; omega
      have q272 : tI u2 27 = nR τ := (F45 27 (by decide)).1.trans e27
      have e8 : w32 ((w32 (8 * (tI u2 27))) + nmB τ (tI τ 4)) = ((8 * nR τ + n : Nat) : Int) := by rw [n1]; exact ix8 q272 (by omega)
      refine br0 hgo ⟨by rw [e8]; omega, br0 ?_ (runF _ hQ)⟩
      rw [e8, (F45 30 (by decide)).2, (G 30 (by decide)).2]
      exact n4
theorem pot_ft {w : CW} {S : List Nat} {τ' : TW} (F : FT S τ τ') (h1 : 1 ∉ S) (h5 : 5 ∉ S) : pot w τ' = pot w τ := by
  unfold pot
  rw [show tI τ' 1 = tI τ 1 from (F 1 h1).1, show tI τ' 5 = tI τ 5 from (F 5 h5).1]
theorem ans_yes {x n : Nat} {σ6 τ' : TW} {w1 w' : CW} {cm : (Unit → CW → Prop) → (Nat → CW → Prop) → Prop} (rb : RB p w τ) (hN : NmR p w τ) (hx : tg w x = 5) (hpx : p + 8 < x) (hw1 : w1 = pI w 61 x n) (F6 : FT [56, 57, 58] τ σ6) (cc : CF p [] [9, 10, 11, 12, 13, 14] [2, 3, 4, 5, 6] w1 σ6 w' τ') (hp : pot w' τ' ≤ pot w1 σ6 + (-5900)) (run : ∀ Q, Q (.inl none) τ' → wpT (e + 6) 4 [] σ6 Q) (s40 : ff_isSign 40 τ' = 0)
    (n1 : nmB τ (tI τ 4) = n) (n2 : n < nN τ) (n3 : bit (tI τ 31) n = 1) (n4 : tA τ 30 (8 * nR τ + n : Nat) = 0) (o6 : ∀ f, 54 ≤ f → ∀ y : Nat, y ≠ nR τ → tA σ6 f y = tA τ f y)
    (g : (RB p w' τ' ∧ ∀ Q X, Q () w' → cm Q X) ∨ (∃ h pl x, Wr w' x h pl ∧ Dd h pl τ' ∧ ∀ Q X, X x w' → cm Q X))
    (go : ∀ Q : TW → Prop, wpT (e + 6) 4 [] σ6 (zqV (fun u11 => ansB (wpT (e + 6)) Q (nmB τ (tI τ 4)) (tI τ 5) u11) zno) → wpT (e + 7) 42 [] τ (zqV Q zno)) :
    OUT p [x] [9, 10, 11, 12, 13, 14] [2, 3, 4, 5, 6, 7, 8, 54, 55, 56, 57, 58] (-5700) 60 (fun (_ : Unit) (_ : Unit) w' τ' => tA τ' 54 (nR τ) = 1 ∧ tA τ' 55 (nR τ) = n ∧ fI w' 61 x = n ∧ (∀ f, f ≠ 61 → fI w' f x = fI w f x) ∧ (∀ f, fR w' f x = fR w f x) ∧ ∀ f, 54 ≤ f → ∀ y : Nat, y ≠ nR τ → tA τ' f y = tA τ f y) cm (fun Q => wpT (e + 7) 42 [] τ (zqV (Q ()) zno)) w τ := by
  have r1 : tI τ 27 = nR τ := hN.2.1
  have r2 := hN.2.2.1
  have nle := hN.2.2.2.2.1
  have rg : (0 : Int) ≤ nR τ ∧ (nR τ : Int) < 192 := by omega
  have G : FT [2, 3, 4, 5, 6, 56, 57, 58] τ τ' := (F6.mono (by decide)).trans (cc.2.2.2.1.mono (by decide))
  obtain ⟨u45, h45⟩ : ∃ u45, u45 = sA (sA τ' 54 (nR τ) 1) 55 (nR τ) (nmB τ (tI τ 4)) := ⟨_, rfl⟩
  have F45 : FT [54, 55] τ' u45 := by rw [h45]; exact ((FT.refl _ _).ssA (by decide)).ssA (by decide)
  have e27 : tI τ' 27 = nR τ := (G 27 (by decide)).1.trans r1
  have e31 : tI u45 31 = tI τ 31 := (F45 31 (by decide)).1.trans (G 31 (by decide)).1
  have c0 : CF p [x] [9, 10, 11, 12, 13, 14] [2, 3, 4, 5, 6, 7, 8, 54, 55, 56, 57, 58] w τ w1 σ6 := ⟨by rw [hw1]; exact (Fr.refl _ _).spI (Or.inl (by simp)), by rw [hw1]; exact (PF.refl _ _ _).spI (Or.inr (by omega)), by rw [hw1]; exact rb.1.spI _ _ _, F6.mono (by decide), Int.le_of_eq (F6 5 (by decide)).1.symm, (F6 1 (by decide)).1⟩
  have c2 : CF p [] [] [54, 55] w' τ' w' u45 := ⟨Fr.refl _ _, PF.refl _ _ _, cc.2.2.1, F45, Int.le_of_eq (F45 5 (by decide)).1.symm, (F45 1 (by decide)).1⟩
  have cT : CF p [x] [9, 10, 11, 12, 13, 14] [2, 3, 4, 5, 6, 7, 8, 54, 55, 56, 57, 58] w τ w' u45 := (c0.trans cc (fun r hr => by cases hr) (by decide) (by decide)).trans c2 (fun r hr => by cases hr) (fun f hf => by cases hf) (by decide)
  have p1 : pot w1 σ6 = pot w τ := by
    rw [pot_ft F6 (by decide) (by decide), hw1]
    rfl
  have p2 : pot w' u45 = pot w' τ' := pot_ft F45 (by decide) (by decide)
  have l1 := rb.1.le (r := x) (by rw [hx]; decide)
  have ox := cc.1.2.2.2.2 x (by rw [hw1]; exact l1) (by simp; omega)
  have tw : ∀ Q : Unit → TW → Prop, Q () u45 → wpT (e + 7) 42 [] τ (zqV (Q ()) zno) := by
    intro Q hQ
    refine go _ (run _ (br1 s40 ?_))
    rw [e27]
    refine ⟨rg, fun u1 hu1 => ?_⟩
    have q27 : tI u1 27 = nR τ := by rw [hu1]; exact e27
    rw [q27]
    refine ⟨rg, fun u2 hu2 => ?_⟩
    have e2 : u2 = u45 := by rw [hu2, hu1, h45]
    subst e2
    rw [e31]
    have hgo : ¬ (nmB τ (tI τ 4) < 0 ∨ i_and (i_shr (tI τ 31) (nmB τ (tI τ 4))) 1 = 0) := by
      rw [n1]
      have : i_and (i_shr (tI τ 31) (n : Int)) 1 = bit (tI τ 31) n := rfl
      rw [this, n3]; omega
    have q272 : tI u2 27 = nR τ := (F45 27 (by decide)).1.trans e27
    have e8 : w32 ((w32 (8 * (tI u2 27))) + nmB τ (tI τ 4)) = ((8 * nR τ + n : Nat) : Int) := by rw [n1]; exact ix8 q272 (by omega)
    refine br0 hgo ⟨by rw [e8]; omega, br1 ?_ hQ⟩
    rw [e8, (F45 30 (by decide)).2, (G 30 (by decide)).2]
    exact n4
  refine ⟨w', u45, (), cT, tw, ?_⟩
  rcases g with ⟨rbn, k⟩ | ⟨h, pl, y, wr, dd, k⟩
  · refine Or.inl ⟨(), rbn.ft F45 (by decide), by omega, ⟨?_, ?_, ?_, fun f hf => ?_, fun f => ?_, fun f hf y hy => ?_⟩, fun Q X hQ => k Q X hQ⟩
    · rw [h45]; simp [tA_sA]
    · rw [h45, ← n1]; simp [tA_sA]
    · rw [ob.efI ox, hw1]; exact fI_at _ _ _ _
    · rw [ob.efI ox, hw1]; exact fI_of _ _ _ _ hf
    · rw [ob.efR ox, hw1]; rfl
    · have m1 : ∀ (g : Nat) (v : Int) (σ0 : TW), tA (sA σ0 g (nR τ) v) f y = tA σ0 f y := fun g v σ0 => by rw [tA_sA, if_neg (fun z => hy (Int.ofNat.inj z.2))]
      rw [h45, m1, m1, (cc.2.2.2.1 f (by simp only [List.mem_cons, List.not_mem_nil, or_false]; omega)).2]
      exact o6 f hf y hy
  · exact Or.inr ⟨h, pl, y, by omega, wr, dd.ft F45 (by decide), fun Q X hX => k Q X hX⟩
end ZAnswer3
