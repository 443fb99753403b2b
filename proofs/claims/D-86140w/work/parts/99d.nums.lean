/-! numbers of both -/
section ZNums
variable {p d e : Nat} {w : CW} {τ : TW}
noncomputable def sgv (mi v : Int) : Int := if ¬ (mi = 0) then w32 (-v) else v
/-- a number that may have a - ahead, up to the figures -/
theorem pr_signed {S S' T : List Nat} (h : RB p w τ) (hS : ∀ f, f ∈ [9, 10, 11, 12, 13, 14] → f ∈ S) (hS' : ∀ f, f ∈ [2, 3, 4, 5, 6, 7, 8] → f ∈ S') (hR : Rm 200 w τ) :
    ∃ w' σ, CF p T S S' w τ w' σ ∧ ((RB p w' σ ∧ pot w' σ ≤ pot w τ ∧ tI σ 3 = 3 ∧ ∃ mi : Int, (∀ Q, Q (.inl (some (ai (sgv mi (tI σ 4))))) w' → wpC p (d + 13) 28 [ar p] w Q) ∧ (∀ Q : Int → TW → Prop, pT_number_27 (wpT (e + 5)) Q mi σ → pT_number_0 (wpT (e + 5)) Q τ)) ∨
      (∃ hh pl x b, pot w' σ ≤ pot w τ + 13 ∧ Wr w' x hh pl ∧ Dd hh pl σ ∧ tI σ 7 ≠ 0 ∧ (∀ Q, Q (.inr x) w' → wpC p (d + 13) 28 [ar p] w Q) ∧ (∀ Q : Int → TW → Prop, Q b σ → pT_number_0 (wpT (e + 5)) Q τ))) := by
  -- what is done at a token that must be figures
  have at15 : ∀ (w1 : CW) (τ1 : TW) (mi : Int), RB p w1 τ1 → Rm 100 w1 τ1 → (tI τ1 3 = 3 ∧ (∀ Q : ZRes → CW → Prop, Q (.inl (some (ai (sgv mi (tI τ1 4))))) w1 → pC_X0_signed_15 p (wpC p (d + 12)) (fun v w => Q (.inl (some (ai v))) w) (fun x w => Q (.inr x) w) mi w1) ∧ (¬ ((tI τ1 7 = 0) ∧ ¬ (tI τ1 3 = 3)))) ∨
      (tI τ1 3 ≠ 3 ∧ ∃ τ2 b, (FT [7, 8] τ1 τ2 ∧ Dd 2 (tI τ1 5) τ2 ∧ tI τ2 7 ≠ 0) ∧ (∀ Q : ZRes → CW → Prop, Q (.inr (cz w1 + 1)) (wrW w1 2 (tI τ1 5)) → pC_X0_signed_15 p (wpC p (d + 12)) (fun v w => Q (.inl (some (ai v))) w) (fun x w => Q (.inr x) w) mi w1) ∧ ∀ Q : Int → TW → Prop, Q b τ2 → ((((tI τ1 7) = 0) ∧ (¬ ((tI τ1 3) = 3)) →
      wpT (e + 5) 12 [ai 2] τ1 (zqV (fun u3 =>
        pT_number_27 (wpT (e + 5)) Q mi u3) zno)) ∧
    (¬ (((tI τ1 7) = 0) ∧ (¬ ((tI τ1 3) = 3))) →
      pT_number_27 (wpT (e + 5)) Q mi τ1))) := by
    intro w1 τ1 mi h1 hR1
    by_cases h3 : tI τ1 3 = 3
    · refine Or.inl ⟨h3, fun Q hQ => fa ?_, fun y => y.2 h3⟩
      rw [h1.ty, if_pos h3]
      refine sC_want (by decide) (fa ?_)
      rw [(h1.nm h3).1]
      exact hQ
    · obtain ⟨τ2, ⟨a1, b1, d1⟩, r1⟩ := RB.stop (e := e + 3) h1 (k := 2) (by decide)
      refine Or.inr ⟨h3, τ2, sgv mi (w32 (tI τ2 4)), ⟨a1, b1, d1⟩, fun Q hQ => fa ?_, fun Q hQ => ⟨fun _ => r1 _ (fa ⟨fun y => absurd y d1, fun _ => fa hQ⟩), fun y => absurd ⟨h1.f0, h3⟩ y⟩⟩
      rw [h1.ty, if_neg h3]
      refine sC_wantNo rfl (Rm.room h1 hR1 (k := 1) (n := 8) (by decide)) ?_
      rw [h1.pl]
      exact hQ
  rcases ff_s01 45 τ with z | z
  · -- no minus
    rcases at15 w τ 0 h (by unfold Rm at *; omega) with ⟨a, b, c⟩ | ⟨a, τ2, b, ⟨b1, b2, b3⟩, c1, c2⟩
    · refine ⟨w, τ, CF.refl h.1 _ _ _, Or.inl ⟨h, Int.le_refl _, a, 0, fun Q hQ => wC_X0_signed (Nat.zero_le _) (sR_isSign h (by decide) ?_), fun Q hQ => sT_takesNo (d := e + 3) z _ ⟨fun y => absurd y c, fun _ => hQ⟩⟩⟩
      rw [z]
      exact ⟨fun _ => b Q hQ, fun y => absurd rfl y⟩
    · refine ⟨wrW w 2 (tI τ 5), τ2, ⟨wrW_fr _ _ _ _, (wrW_st h.1 [] S 2 (tI τ 5)).2.1, (wrW_st h.1 [] S 2 (tI τ 5)).2.2.1, b1.mono (fun f hf => hS' f (by simp at hf ⊢; omega)), by rw [(b1 5 (by decide)).1]; exact Int.le_refl _, (b1 1 (by decide)).1⟩, Or.inr ⟨2, tI τ 5, cz w + 1, b, ?_, wrW_wr _ _ _, b2, b3, fun Q hQ => wC_X0_signed (Nat.zero_le _) (sR_isSign h (by decide) ?_), fun Q hQ => sT_takesNo (d := e + 3) z _ (c2 Q hQ)⟩⟩
      · have q1 : cz (wrW w 2 (tI τ 5)) = cz w + 1 := rfl
        have q2 : cu (wrW w 2 (tI τ 5)) = cu w + 8 := rfl
        unfold pot zm
        rw [(b1 5 (by decide)).1, (b1 1 (by decide)).1, q1, q2]
        omega
      · rw [z]
        exact ⟨fun _ => c1 Q hQ, fun y => absurd rfl y⟩
  · -- a minus
    have hs0 : tI τ 3 ≠ 0 := by
      intro y
      have := ff_s0 (i := 45) (τ := τ) (fun x => by omega)
      omega
    obtain ⟨w1, σ, c0, p1, run1, g⟩ := nx (d := d) (e := e) (T := T) (S := S) (S' := [2, 3, 4, 5, 6]) h hs0 hS (fun f hf => hf) (by unfold Rm at *; omega)
    have hf0 : tI σ 7 = 0 := (c0.2.2.2.1 7 (by decide)).1.trans h.f0
    have c1 : CF p T S S' w τ w1 σ := c0.mono h.1 (fun r hr => Or.inl hr) (fun f hf => hf) (fun f hf => hS' f (by simp at hf ⊢; omega))
    have cm : ∀ Q : ZRes → CW → Prop, wpC p (d + 12) 4 [ar p] w (zqV (fun u14 => pC_X0_signed_15 p (wpC p (d + 12)) (fun v w => Q (.inl (some (ai v))) w) (fun x w => Q (.inr x) w) 1 u14) (fun x16 u17 => Q (.inr x16) u17)) → wpC p (d + 13) 28 [ar p] w Q := by
      intro Q hh
      refine wC_X0_signed (Nat.zero_le _) (sR_isSign h (by decide) ?_)
      rw [z]
      exact ⟨fun y => absurd y (by decide), fun _ => hh⟩
    have tm : ∀ Q : Int → TW → Prop, ((((tI σ 7) = 0) ∧ (¬ ((tI σ 3) = 3)) →
      wpT (e + 5) 12 [ai 2] σ (zqV (fun u3 =>
        pT_number_27 (wpT (e + 5)) Q 1 u3) zno)) ∧
    (¬ (((tI σ 7) = 0) ∧ (¬ ((tI σ 3) = 3))) →
      pT_number_27 (wpT (e + 5)) Q 1 σ)) → pT_number_0 (wpT (e + 5)) Q τ := fun Q hh => sT_takesYes (d := e) h.f0 (by omega) run1 _ hh
    rcases g with ⟨g1, g4⟩ | ⟨hh, pl, x, g2, g3, g4⟩
    · have hR1 : Rm 100 w1 σ := by
        unfold Rm at *
        rw [c1.1.emu, c1.1.emz]
        omega
      rcases at15 w1 σ 1 g1 hR1 with ⟨a, b, c⟩ | ⟨a, τ2, b, ⟨b1, b2, b3⟩, k1, k2⟩
      · exact ⟨w1, σ, c1, Or.inl ⟨g1, by omega, a, 1, fun Q hQ => cm Q (g4 _ (b Q hQ)), fun Q hQ => tm Q ⟨fun y => absurd y c, fun _ => hQ⟩⟩⟩
      · refine ⟨wrW w1 2 (tI σ 5), τ2, ⟨c1.1.trans (wrW_fr _ _ _ _), c1.2.1.trans (wrW_st c1.2.2.1 [] S 2 (tI σ 5)).2.1, (wrW_st c1.2.2.1 [] S 2 (tI σ 5)).2.2.1, c1.2.2.2.1.trans (b1.mono (fun f hf => hS' f (by simp at hf ⊢; omega))), by rw [(b1 5 (by decide)).1]; exact c1.2.2.2.2.1, by rw [(b1 1 (by decide)).1]; exact c1.2.2.2.2.2⟩, Or.inr ⟨2, tI σ 5, cz w1 + 1, b, ?_, wrW_wr _ _ _, b2, b3, fun Q hQ => cm Q (g4 _ (k1 Q hQ)), fun Q hQ => tm Q (k2 Q hQ)⟩⟩
        have q1 : cz (wrW w1 2 (tI σ 5)) = cz w1 + 1 := rfl
        have q2 : cu (wrW w1 2 (tI σ 5)) = cu w1 + 8 := rfl
        unfold pot zm at *
        rw [(b1 5 (by decide)).1, (b1 1 (by decide)).1, q1, q2]
        omega
    · have h7 : tI σ 3 = 7 := by
        rcases g3 with ⟨a, b, c⟩ | ⟨a, b, c, q, -⟩
        · omega
        · exact b
      obtain ⟨τ1, ⟨a1, b1, d1⟩, r1⟩ := dd_stop (d := e + 3) (k := 2) g3 (by decide)
      have h3 : ((tI σ 7) = 0) ∧ (¬ ((tI σ 3) = 3)) := ⟨hf0, by have : tI σ 3 = 7 := h7; omega⟩
      refine ⟨w1, τ1, ⟨c1.1, c1.2.1, c1.2.2.1, c1.2.2.2.1.trans (a1.mono (fun f hf => hS' f (by simp at hf ⊢; omega))), by rw [(a1 5 (by decide)).1]; exact c1.2.2.2.2.1, by rw [(a1 1 (by decide)).1]; exact c1.2.2.2.2.2⟩, Or.inr ⟨hh, pl, x, sgv 1 (w32 (tI τ1 4)), ?_, g2, b1, d1, fun Q hQ => cm Q (g4 _ hQ), fun Q hQ => tm Q ⟨fun _ => r1 _ (fa ⟨fun y => absurd y d1, fun _ => fa hQ⟩), fun y => absurd h3 y⟩⟩⟩
      have : pot w1 τ1 = pot w1 σ := by unfold pot; rw [(a1 5 (by decide)).1, (a1 1 (by decide)).1]
      omega
/-- readWhole and number -/
theorem pr_whole {S S' T : List Nat} (h : RB p w τ) (hS : ∀ f, f ∈ [9, 10, 11, 12, 13, 14] → f ∈ S) (hS' : ∀ f, f ∈ [2, 3, 4, 5, 6, 7, 8] → f ∈ S') (hR : Rm 300 w τ) :
    OUT p T S S' (-5800) 40 (fun (v : Int) (b : Int) _ _ => v = b ∧ -999999999 ≤ v ∧ v ≤ 999999999) (fun Q X => wpC p (d + 14) 27 [ar p] w (zqI Q X)) (fun Q => wpT (e + 6) 31 [] τ (zqI Q zno)) w τ := by
  obtain ⟨w1, σ, c1, g⟩ := pr_signed (d := d) (e := e) (T := T) (S := S) (S' := S') h hS hS' (by unfold Rm at *; omega)
  rcases g with ⟨rb, p1, h3, mi, k1, k2⟩ | ⟨hh, pl, x, b, p1, wr, dd, hne, k1, k2⟩
  · obtain ⟨w2, σ2, c2, p2, run2, g2⟩ := nx (d := d + 1) (e := e + 1) (T := T) (S := S) (S' := S') rb (by omega) hS (fun f hf => hS' f (by simp at hf ⊢; omega)) (by
      unfold Rm at *
      rw [c1.1.emu, c1.1.emz]
      omega)
    have hv := (rb.nm h3).2
    have e1 : w32 (tI σ 4) = tI σ 4 := w32_s (by have : tI σ 4 = tI σ 4 := rfl; omega) (by have : tI σ 4 = tI σ 4 := rfl; omega)
    have tm : ∀ Q : Int → TW → Prop, Q (sgv mi (tI σ 4)) σ2 → wpT (e + 6) 31 [] τ (zqI Q zno) := by
      intro Q hQ
      refine wT_number (Nat.zero_le _) (k2 _ (fa ⟨fun _ => run2 _ (fa ?_), fun y => absurd rb.f0 y⟩))
      rw [e1]
      exact hQ
    have c12 := c1.trans c2 (fun r hr => Or.inl hr) (fun f hf => hf) (fun f hf => hf)
    refine ⟨w2, σ2, sgv mi (tI σ 4), c12, tm, ?_⟩
    rcases g2 with ⟨rb2, r2⟩ | ⟨hh, pl, x, wr, dd, r2⟩
    · refine Or.inl ⟨sgv mi (tI σ 4), rb2, by omega, ⟨rfl, ?_⟩, fun Q X hQ => wC_X0_readWhole (Nat.zero_le _) (k1 _ (r2 _ hQ))⟩
      unfold sgv
      split
      · rw [w32_s (by omega) (by omega)]; omega
      · omega
    · exact Or.inr ⟨hh, pl, x, by omega, wr, dd, fun Q X hX => wC_X0_readWhole (Nat.zero_le _) (k1 _ (r2 _ hX))⟩
  · exact ⟨w1, σ, b, c1, fun Q hQ => wT_number (Nat.zero_le _) (k2 _ hQ), Or.inr ⟨hh, pl, x, by omega, wr, dd, fun Q X hX => wC_X0_readWhole (Nat.zero_le _) (k1 _ hX)⟩⟩
end ZNums
