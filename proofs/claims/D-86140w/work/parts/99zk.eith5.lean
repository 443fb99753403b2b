/-! alternatives, both: their end -/
section ZEith5
variable {p b e d : Nat} {w : CW} {τ : TW}
/-- the reference, behind what is open -/
abbrev rpK (call : Nat → List ZA → TW → (ZRes → TW → Prop) → Prop) (I15 : Int → Int → TW → Prop) (x3 x4 : Int) : ZRes → TW → Prop := zqI (fun v11 u10 =>
                  (v11 = 0 →
                    ((tI u10 7) = 0 →
                      ∀ u14 : TW, u14 = sI u10 32 (w32 ((tI u10 32) - 1)) →
                      ∀ x4_15 : Int, x4_15 = tI u14 32 →
                      (0 ≤ (tI u14 32) ∧ (tI u14 32) < 8) ∧
                      ∀ x3_17 : Int, x3_17 = tA u14 33 (tI u14 32) →
                      I15 x3_17 x4_15 u14) ∧
                    (¬ ((tI u10 7) = 0) →
                      I15 x3 x4 u10)) ∧
                  (¬ (v11 = 0) →
                    (0 ≤ (w32 ((tI u10 32) - 1)) ∧ (w32 ((tI u10 32) - 1)) < 8) ∧
                    (0 ≤ (tA u10 33 (w32 ((tI u10 32) - 1))) ∧ (tA u10 33 (w32 ((tI u10 32) - 1))) < 1700) ∧
                    (((tA u10 17 (tA u10 33 (w32 ((tI u10 32) - 1)))) = 6 → (0 ≤ (w32 ((tI u10 32) - 1)) ∧ (w32 ((tI u10 32) - 1)) < 8))) ∧
                    ∀ v20 : Int, v20 = (if ((tA u10 17 (tA u10 33 (w32 ((tI u10 32) - 1)))) = 6) ∧ ((tA u10 34 (w32 ((tI u10 32) - 1))) = 6) then 1 else 0) →
                    (fo_wanted u10) ∧
                    ∀ v25 : Int, v25 = (if ((tI u10 32) = 6) ∨ (¬ (v20 = 0)) then 1 else 0) →
                    call 25 [ai (ff_wanted u10), ai v25] u10 (zqI (fun v27 u26 =>
                      I15 v27 x4 u26) zno))) zno
/-- the reference, behind an alternative's end -/
abbrev gE1 (call : Nat → List ZA → TW → (ZRes → TW → Prop) → Prop) (o : Nat) (Q : ZRes → TW → Prop) : ZRes → TW → Prop := zqI (fun v14 u13 =>
        (v14 = 0 →
          ((ff_isSign 41 u13) = 0 →
            pT_goesOn_210 call (fun v w => Q (.inl (some (ai v))) w) u13) ∧
          (¬ ((ff_isSign 41 u13) = 0) →
            (0 ≤ (o : Int) ∧ (o : Int) < 8) ∧
            ((tA u13 39 o) = 0 →
              pT_goesOn_148 call (fun v w => Q (.inl (some (ai v))) w) o u13) ∧
            (¬ ((tA u13 39 o) = 0) →
              (0 ≤ (o : Int) ∧ (o : Int) < 8) ∧
              call 13 [ai 8, ai (tA u13 36 o)] u13 (zqV (fun u36 =>
                pT_goesOn_148 call (fun v w => Q (.inl (some (ai v))) w) o u36) zno)))) ∧
        (¬ (v14 = 0) →
          (0 ≤ (o : Int) ∧ (o : Int) < 8) ∧
          ∀ u38 : TW, u38 = sI u13 31 (tA u13 37 o) →
          Q (.inl (some (ai 1))) u38)) zno
abbrev cm228 (p m : Nat) (s x2 : Int) (a : Nat) (x4 x5 x6 : Int) (x7 : Nat) (x8 : Int) (u : CW) : (Nat → CW → Prop) → (Nat → CW → Prop) → (Int → Int → Int → CW → Prop) → Prop := fun Q X I => pC_X0_either_228 p (wpC p (m + 18)) (fun v w => Q v w) (fun x w => X x w) I s x2 a x4 x5 x6 x7 x8 u
/-- no end, no other alternative -/
theorem ei_none {m n o a x7 : Nat} {s x2 x4 x5 x6 x8 y3 y4 : Int} {L : (Nat → CW → Prop) → (Nat → CW → Prop) → (Int → Int → Int → CW → Prop) → Prop} {a0 t0 : Int} {T S : List Nat} {u : CW} {σ : TW} (rb : RB p u σ) (s124 : ff_isSign 124 σ = 0) (s41 : ff_isSign 41 σ = 0) (hR : Rm 2500 u σ) (ht : 13 ≤ t0) : OUTb p (cz w) T S SPT a0 t0 (fun r v w' τ' => (0 : Int) = 0 ∧ PN p b (n + 1) τ s o r v w' τ') (cmG L (cm228 p m s x2 a x4 x5 x6 x7 x8 u)) (tmG e gI (fun I _ => wpT (e + 7) 17 [ai 124] σ (gE1 (wpT (e + 7)) o (rpK (wpT (e + 8)) I y3 y4)))) u σ := by
  obtain ⟨σ4, ⟨q1, q2, q3⟩, run⟩ := rb.must (e := e + 1) s41
  have hr := Rm.room rb hR (k := 1) (n := 8) (by decide)
  exact OUTb.thr rb (fun Q X hh I l => bC_X0_either_228 (sR_isSign rb (by decide) (br1 s124 (bC_X0_either_237 (sR_isSign rb (by decide) (rb.wantNo s41 hr hh)))))) (DD.iP (σ := σ4) (S1 := [7, 8]) (F' := fun I _ => I y3 y4 σ4) q1 (fun I QF cl k => sT_takesNo (d := e + 5) s124 _ (br1 rfl (br1 s41 (bT_goesOn_210 (run _ (br1 rfl (br0 q3 k))))))) (DD.iF q2 q3 (fun I QF cl k => k))) ht
/-- they are not alike -/
theorem ei_unlike {m n o a x7 : Nat} {s x2 x4 x5 x6 y3 y4 : Int} {L : (Nat → CW → Prop) → (Nat → CW → Prop) → (Int → Int → Int → CW → Prop) → Prop} {a0 t0 : Int} {T S : List Nat} {u : CW} {σ : TW} (rb : RB p u σ) (hN : tI σ 27 = nR σ ∧ nR σ < 192) (s124 : ff_isSign 124 σ = 0) (s41 : ff_isSign 41 σ ≠ 0) (h39 : tA σ 39 o ≠ 0) (h36 : tA σ 36 o = x2) (ho : o < 8) (hR : Rm 2500 u σ) (ht : 13 ≤ t0) : OUTb p (cz w) T S SPT a0 t0 (fun r v w' τ' => (0 : Int) = 0 ∧ PN p b (n + 1) τ s o r v w' τ') (cmG L (cm228 p m s x2 a x4 x5 x6 x7 0 u)) (tmG e gI (fun I _ => wpT (e + 7) 17 [ai 124] σ (gE1 (wpT (e + 7)) o (rpK (wpT (e + 8)) I y3 y4)))) u σ := by
  obtain ⟨σ4, ⟨q1, q2, q3⟩, run⟩ := RB.fails (e := e + 6) (pl := x2) rb (k := 8) (by decide)
  have hr := Rm.room rb hR (k := 1) (n := 8) (by decide)
  obtain ⟨σ5, h5⟩ : ∃ σ5, σ5 = sI σ4 31 (tA σ4 38 o) := ⟨_, rfl⟩
  have F5 : FT [31] σ4 σ5 := by rw [h5]; exact (FT.refl _ _).ssI (by decide)
  obtain ⟨σ6, F6, -, -, run6⟩ := sT_g160 (d := e + 7) (R := nR σ) (k := o) hN.2 ho 8 0 σ5 rfl (((F5 27 (by decide)).1.trans (q1 27 (by decide)).1).trans hN.1)
  have D6 := (q2.ft F5 (by decide)).ft F6 (by decide)
  obtain ⟨σ7, ⟨r1, r2, r3⟩, run7⟩ := dd_must (d := e + 3) (c := 41) D6
  exact OUTb.thr rb (fun Q X hh I l => bC_X0_either_228 (sR_isSign rb (by decide) (br1 s124 (bC_X0_either_237 (sR_isSign rb (by decide) (sC_want s41 (sC_needNo rfl hr hh))))))) (DD.iP (σ := σ7) (S1 := [7, 8, 30, 31]) (F' := fun I _ => I y3 y4 σ7) (((q1.mono (by decide)).trans (F5.mono (by decide))).trans ((F6.mono (by decide)).trans (r1.mono (by decide)))) (fun I QF cl k => sT_takesNo (d := e + 5) s124 _ (br1 rfl (br0 s41 ⟨by omega, br0 h39 ⟨by omega, by
    rw [h36]
    refine run _ (bT_goesOn_148 ⟨by omega, fun v hv => ?_⟩)
    rw [← h5] at hv
    subst hv
    exact bT_goesOn_160 (fun I2 cl2 => run6 _ I2 cl2 (bT_goesOn_210 (run7 _ (br1 rfl (br0 r3 k)))))⟩⟩))) (DD.iF r2 r3 (fun I QF cl k => k))) ht
end ZEith5
