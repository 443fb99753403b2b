/-! an answer of a rule, both -/
section ZAnswer
variable {p b e d : Nat} {w : CW} {τ : TW}
theorem sC_wholeNo (h : RB p w τ) (h3 : tI τ 3 ≠ 3) (h45 : ff_isSign 45 τ = 0) (hm : cz w + 1 ≤ mz w ∧ cu w + 8 ≤ mu w) {Q : ZRes → CW → Prop} (hQ : Q (.inr (cz w + 1)) (wrW w 2 (tI τ 5))) : wpC p (d + 7) 27 [ar p] w Q := by
  refine wC_X0_readWhole (Nat.zero_le _) (wC_X0_signed (Nat.zero_le _) (sR_isSign h (by decide) (br1 h45 (fa ?_))))
  exact h.wantNo (if_neg (by rw [show fI w 10 p = tI τ 3 from h.ty]; exact h3)) hm hQ
/-- an answer that is a number -/
theorem pr_ansNum {x : Nat} (rb : RB p w τ) (hN : NmR p w τ) (hx : tg w x = 5) (hpx : p + 8 < x) (h1 : tI τ 3 ≠ 1) (hR : Rm 400 w τ) :
    OUT p [x] [9, 10, 11, 12, 13, 14] [2, 3, 4, 5, 6, 7, 8, 54, 55, 57, 58] (-5700) 60 (fun (_ : Unit) (_ : Unit) w' τ' => tA τ' 54 (nR τ) = 0 ∧ fI w' 60 x = tA τ' 55 (nR τ) ∧ -999999999 ≤ fI w' 60 x ∧ fI w' 60 x ≤ 999999999 ∧ (∀ f, f ≠ 60 → fI w' f x = fI w f x) ∧ (∀ f, fR w' f x = fR w f x) ∧ ∀ f, 54 ≤ f → ∀ y : Nat, y ≠ nR τ → tA τ' f y = tA τ f y) (fun Q X => wpC p (d + 16) 39 [ar p, ar x] w (zqV (Q ()) X)) (fun Q => wpT (e + 7) 42 [] τ (zqV (Q ()) zno)) w τ := by
  have r1 : tI τ 27 = nR τ := hN.2.1
  have r2 := hN.2.2.1
  have rg : (0 : Int) ≤ nR τ ∧ (nR τ : Int) < 192 := by omega
  obtain ⟨σ1, hσ1⟩ : ∃ σ1, σ1 = sA (sA (sA τ 57 (nR τ) (tI τ 5)) 58 (nR τ) 0) 54 (nR τ) 0 := ⟨_, rfl⟩
  have F1 : FT [54, 57, 58] τ σ1 := by rw [hσ1]; exact (((FT.refl _ τ).ssA (by decide)).ssA (by decide)).ssA (by decide)
  have hroom := Rm.room rb hR (k := 1) (n := 8) (by decide)
  have ty : fI w 10 p = tI τ 3 := rb.ty
  have go : ∀ Q : TW → Prop, ((¬ ((tI σ1 3) = 3) ∧ ((ff_isSign 45 σ1) = 0) → wpT (e + 6) 12 [ai 2] σ1 (zqV (fun u62 => Q u62) zno)) ∧ (¬ (¬ ((tI σ1 3) = 3) ∧ ((ff_isSign 45 σ1) = 0)) → pT_readAnswer_64 (wpT (e + 6)) Q σ1)) → wpT (e + 7) 42 [] τ (zqV Q zno) := by
    intro Q hh
    refine wT_readAnswer (by omega) (bT_readAnswer_0 ?_)
    rw [r1]
    refine ⟨rg, fun u1 hu1 => ?_⟩
    have q1 : tI u1 27 = nR τ := by rw [hu1]; exact r1
    rw [q1]
    refine ⟨rg, fun u3 hu3 => br0 (by rw [hu3, hu1]; exact h1) ?_⟩
    have q3 : tI u3 27 = nR τ := by rw [hu3]; exact q1
    rw [q3]
    refine ⟨rg, fun u56 hu56 => ?_⟩
    have : u56 = σ1 := by rw [hu56, hu3, hu1, hσ1]
    rw [this]
    exact hh
  have s3 : tI σ1 3 = tI τ 3 := (F1 3 (by decide)).1
  have s45 : ff_isSign 45 σ1 = ff_isSign 45 τ := ff_s_ft F1 (by decide) (by decide) 45
  by_cases hc : tI τ 3 ≠ 3 ∧ ff_isSign 45 τ = 0
  · obtain ⟨σ2, ⟨q1, q2, q3⟩, run⟩ := RB.stop (e := e + 4) (rb.ft F1 (by decide)) (k := 2) (by decide)
    refine OUTb.go (OUTb.thr (how := 2) (pl := tI τ 5) rb (fun Q X hh => wC_X0_answer (Nat.zero_le _) (bC_X0_answer_0 (br0 (by rw [ty]; exact h1) (sC_wholeNo (d := d + 8) rb hc.1 hc.2 hroom hh)))) ?_)
    have e5 : tI σ1 5 = tI τ 5 := (F1 5 (by decide)).1
    rw [e5] at q2
    exact DD.pre (tm' := fun Q => Q () σ2) ((F1.mono (by decide)).trans (q1.mono (by decide)) : FT [7, 8, 54, 57, 58] τ σ2) (fun Q hh => go _ (br1 ⟨by rw [s3]; exact hc.1, by rw [s45]; exact hc.2⟩ (run _ hh))) (DD.ret (b := ()) q2 (fun Q hQ => hQ)) (by decide) (by decide)
  · have rb1 := rb.ft F1 (by decide)
    refine OUTb.go (OUTb.tM (τ' := σ1) (tm' := fun Q => pT_readAnswer_64 (wpT (e + 6)) (Q ()) σ1) hR rb F1 (fun Q hh => go _ (br0 (fun y => hc ⟨by rw [← s3]; exact y.1, by rw [← s45]; exact y.2⟩) hh)) (fun rb1 hR1 => ?_))
    refine OUTb.bd0 (cm2 := fun v u Q X => hP 60 (tg u x) = true ∧ ∀ u', u' = pI u 60 x v → Q () u') (tm2 := fun v σ Q => ∀ σ', σ' = sA σ 55 (nR τ) v → Q () σ') hR1 (pr_whole (d := d + 1) (e := e) (T := []) (S := [9, 10, 11, 12, 13, 14]) (S' := [2, 3, 4, 5, 6, 7, 8]) rb1 (fun f hf => hf) (fun f hf => hf) (hR1.le (by decide))) (fun Q X hh => wC_X0_answer (Nat.zero_le _) (bC_X0_answer_0 (br0 (by rw [ty]; exact h1) hh))) (fun Q b1 τ1 run hh => bT_readAnswer_64 (run (fun v u63 => (0 ≤ (tI σ1 27) ∧ (tI σ1 27) < 192) ∧ ∀ u65 : TW, u65 = sA u63 55 (tI σ1 27) v → Q () u65) ⟨by rw [(F1 27 (by decide)).1, r1]; exact rg, fun u hu => hh u (by rw [hu, (F1 27 (by decide)).1, r1])⟩)) (fun v v' u σ rb2 n c2 hR2 => ?_) (fun h pl v' σ D F => ?_)
    · obtain ⟨hv, hv1, hv2⟩ := n
      subst hv
      have tx : tg u x = 5 := by rw [(c2.1.2.2.2.1 x (rb.1.le (by rw [hx]; decide))).1]; exact hx
      refine OUTb.tw (S1 := [55]) (tm2 := fun σ' Q => Q () σ') hR2 rb2 (sA σ 55 (nR τ) v) ((FT.refl _ _).ssA (by decide)) (fun Q hh => hh) (fun σ' e' rb3 G3 hR3 => ?_)
      refine OUTb.cw (T1 := [x]) (S1 := []) (k := 0) (cm2 := fun u' Q X => Q () u') hR3 rb3 (pI u 60 x v) ((Fr.refl _ _).spI (Or.inl (by simp))) ((PF.refl _ _ _).spI (Or.inr (by omega))) (rb3.1.spI _ _ _) (Int.le_refl _) (by decide) (fun Q X hh => ⟨by rw [tx]; decide, hh⟩) (fun r hr => by
        rw [List.mem_singleton.mp hr]
        exact ⟨Or.inl (by simp), by omega, Or.inr ⟨by rw [tx]; decide, rb2.1.le (by rw [tx]; decide)⟩⟩) (fun u' eu' rb4 c4 hR4 => ?_)
      have ox := c2.1.2.2.2.2 x (rb.1.le (by rw [hx]; decide)) (by simp; omega)
      refine OUTb.ret (v := ()) (v' := ()) rb4 ⟨?_, ?_, ?_, ?_, fun f hf => ?_, fun f => ?_, fun f hf y hy => ?_⟩ (fun Q X hh => hh) (fun Q hh => hh)
      · rw [(G3 54 (by decide)).2, (c2.2.2.2.1 54 (by decide)).2, hσ1, tA_sA, if_pos ⟨rfl, rfl⟩]
      · rw [eu', fI_at, e', tA_sA, if_pos ⟨rfl, rfl⟩]
      · rw [eu', fI_at]; exact hv1
      · rw [eu', fI_at]; exact hv2
      · rw [eu', fI_of _ _ _ _ hf]; exact ob.efI ox f
      · rw [eu', fR_pI]; exact ob.efR ox f
      · have n1 : ∀ (g : Nat) (v : Int) (σ0 : TW), tA (sA σ0 g (nR τ) v) f y = tA σ0 f y := fun g v σ0 => by rw [tA_sA, if_neg (fun z => hy (Int.ofNat.inj z.2))]
        rw [e', n1, (c2.2.2.2.1 f (by simp only [List.mem_cons, List.not_mem_nil, or_false]; omega)).2, hσ1, n1, n1, n1]
    · exact DD.tw (tm2 := fun σ' Q => Q () σ') D (sA σ 55 (nR τ) v') ((FT.refl _ _).ssA (by decide) : FT [55] _ _) (fun Q hh => hh) (fun σ' e' D' G => DD.ret (b := ()) D' (fun Q hh => hh))
end ZAnswer
