/-! an answer that is a call, both: the names handed on -/
section ZCall
variable {p b e d : Nat} {w : CW} {τ : TW}
/-- the first i names handed, and where they stand -/
def HL (w : CW) (τ : TW) (ha wh R i : Nat) : Prop := ∀ j : Nat, j < i → ∃ k : Nat, aI w ha j = k ∧ k < nN τ ∧ bit (tI τ 31) k = 1 ∧ (j < 3 → tA τ 59 (3 * R + j : Nat) = k ∧ tA τ 60 (3 * R + j : Nat) = aI w wh j)
/-- what the rule x, of the number R, has of its call -/
def CL (p b : Nat) (w : CW) (τ : TW) (x R : Nat) : Prop := ∃ m A B : Nat, 1 ≤ m ∧ m ≤ 800 ∧ tA τ 58 R = m ∧ fR w 62 x = A ∧ fR w 65 x = B ∧ IArr p w A m ∧ IArr p w B m ∧ b < A ∧ b < B ∧ HL w τ A B R m
/-- the component's loop behind its next -/
def anC (p : Nat) (call : Nat → List ZA → CW → (ZRes → CW → Prop) → Prop) (Q : CW → Prop) (X : Nat → CW → Prop) (x1 x2 x3 : Nat) (I72 : Int → CW → Prop) (x4 : Int) (u15 : CW) : Prop :=
      ∀ v17 : Int, v17 = (if (fI u15 10 p) = 1 then 1 else 0) →
      call 14 [ar p, ai v17] u15 (zqV (fun u18 =>
        call 38 [ar p] u18 (zqI (fun v21 u20 =>
          (tg u20 x2 = 102 ∧ 0 ≤ x4 ∧ x4 < ln u20 x2) ∧
          ∀ u22 : CW, u22 = qI u20 x2 x4 v21 →
          (tg u22 x3 = 102 ∧ 0 ≤ x4 ∧ x4 < ln u22 x3) ∧
          ∀ u24 : CW, u24 = qI u22 x3 x4 (fI u22 11 p) →
          ∀ x4_26 : Int, x4_26 = w32 (x4 + 1) →
          call 4 [ar p] u24 (zqV (fun u27 =>
            call 16 [ar p, ai 44] u27 (zqI (fun v30 u29 =>
              (v30 = 0 →
                pC_X0_answer_125 p call Q X x1 x2 x3 x4_26 u29) ∧
              (¬ (v30 = 0) →
                I72 x4_26 u29)) zno)) (fun x50 u51 =>
            X x50 u51))) (fun x52 u53 =>
          X x52 u53))) (fun x54 u55 =>
        X x54 u55))
theorem anC_i {call : Nat → List ZA → CW → (ZRes → CW → Prop) → Prop} {Q : CW → Prop} {X : Nat → CW → Prop} {x1 x2 x3 : Nat} {I72 : Int → CW → Prop} {x4 : Int} {u15 : CW} (h : ∀ v17 : Int, v17 = (if (fI u15 10 p) = 1 then 1 else 0) →
      call 14 [ar p, ai v17] u15 (zqV (fun u18 =>
        call 38 [ar p] u18 (zqI (fun v21 u20 =>
          (tg u20 x2 = 102 ∧ 0 ≤ x4 ∧ x4 < ln u20 x2) ∧
          ∀ u22 : CW, u22 = qI u20 x2 x4 v21 →
          (tg u22 x3 = 102 ∧ 0 ≤ x4 ∧ x4 < ln u22 x3) ∧
          ∀ u24 : CW, u24 = qI u22 x3 x4 (fI u22 11 p) →
          ∀ x4_26 : Int, x4_26 = w32 (x4 + 1) →
          call 4 [ar p] u24 (zqV (fun u27 =>
            call 16 [ar p, ai 44] u27 (zqI (fun v30 u29 =>
              (v30 = 0 →
                pC_X0_answer_125 p call Q X x1 x2 x3 x4_26 u29) ∧
              (¬ (v30 = 0) →
                I72 x4_26 u29)) zno)) (fun x50 u51 =>
            X x50 u51))) (fun x52 u53 =>
          X x52 u53))) (fun x54 u55 =>
        X x54 u55))) : anC p call Q X x1 x2 x3 I72 x4 u15 := h
def anLC (p M x1 x2 x3 : Nat) (Q : Unit → CW → Prop) (X : Nat → CW → Prop) (I : Int → CW → Prop) : Prop := ∀ (x4 : Int) (w : CW), wpC p M 4 [ar p] w (zqV (fun u15 => anC p (wpC p M) (fun w => Q () w) (fun x w => X x w) x1 x2 x3 I x4 u15) (fun x58 u59 => X x58 u59)) → I x4 w
theorem pC_an72 {M : Nat} {Q : Unit → CW → Prop} {X : Nat → CW → Prop} {x1 x2 x3 : Nat} {x4 : Int} {w : CW} : pC_X0_answer_72 p (wpC p M) (fun w => Q () w) (fun x w => X x w) x1 x2 x3 x4 w = ∀ I, anLC p M x1 x2 x3 Q X I → I x4 w := rfl
/-- the reference's, behind a name -/
def anT (call : Nat → List ZA → TW → (ZRes → TW → Prop) → Prop) (Q : TW → Prop) (I202 : Int → TW → Prop) (v20 : Int) (u19 : TW) : Prop :=
          (0 ≤ (tI u19 27) ∧ (tI u19 27) < 192) ∧
          (3 ≤ (tA u19 58 (tI u19 27)) →
            pT_readAnswer_295 call Q I202 u19) ∧
          (¬ (3 ≤ (tA u19 58 (tI u19 27))) →
            (0 ≤ (tI u19 27) ∧ (tI u19 27) < 192) ∧
            (0 ≤ (w32 ((w32 (3 * (tI u19 27))) + (tA u19 58 (tI u19 27)))) ∧ (w32 ((w32 (3 * (tI u19 27))) + (tA u19 58 (tI u19 27)))) < 576) ∧
            ∀ u31 : TW, u31 = sA u19 59 (w32 ((w32 (3 * (tI u19 27))) + (tA u19 58 (tI u19 27)))) v20 →
            (0 ≤ (tI u31 27) ∧ (tI u31 27) < 192) ∧
            (0 ≤ (w32 ((w32 (3 * (tI u31 27))) + (tA u31 58 (tI u31 27)))) ∧ (w32 ((w32 (3 * (tI u31 27))) + (tA u31 58 (tI u31 27)))) < 576) ∧
            ∀ u34 : TW, u34 = sA u31 60 (w32 ((w32 (3 * (tI u31 27))) + (tA u31 58 (tI u31 27)))) (tI u31 5) →
            pT_readAnswer_295 call Q I202 u34)
def anLT (M : Nat) (Q : Unit → TW → Prop) (I202 : Int → TW → Prop) : Prop := ∀ (x3 : Int) (w : TW), (
    (¬ (x3 = 0) ∧ ((tI w 7) = 0) →
      ((tI w 3) = 1 →
        wpT M 41 [ai 0] w (zqI (fun v20 u19 => anT (wpT M) (fun w => Q () w) I202 v20 u19) zno)) ∧
      (¬ ((tI w 3) = 1) →
        pT_readAnswer_221 (wpT M) (fun w => Q () w) w)) ∧
    (¬ (¬ (x3 = 0) ∧ ((tI w 7) = 0)) →
      pT_readAnswer_329 (wpT M) (fun w => Q () w) w)) → I202 x3 w
theorem pT_an202 {M : Nat} {Q : Unit → TW → Prop} {x3 : Int} {w : TW} : pT_readAnswer_202 (wpT M) (fun w => Q () w) x3 w = ∀ I, anLT M Q I → I x3 w := rfl
theorem pr_known0 {S S' T : List Nat} (h : RB p w τ) (hN : NmR p w τ) (h1 : tI τ 3 = 1) (hS' : ∀ f, f ∈ [7, 8] → f ∈ S') (hR : Rm 100 w τ) :
    OUT p T S S' 0 13 (fun (v : Int) (b : Int) w' τ' => v = b ∧ w' = w ∧ τ' = τ ∧ ∃ n : Nat, v = n ∧ n < nN τ ∧ bit (tI τ 31) n = 1) (fun Q X => wpC p (d + 5) 38 [ar p] w (zqI Q X)) (fun Q => wpT (e + 3) 41 [ai 0] τ (zqI Q zno)) w τ := by
  obtain ⟨w', τ', b', c, run, g⟩ := pr_known (d := d) (e := e) (T := T) (S := S) (whole := 0) h hN h1 (Or.inl rfl) hS' hR
  refine ⟨w', τ', b', c, run, ?_⟩
  rcases g with ⟨v, g1, g2, ⟨n1, n2, n3, n, n4, n5, n6, n7, n8⟩, g4⟩ | ⟨hh, pl, x, g1, g2, g3, g4⟩
  · refine Or.inl ⟨v, g1, g2, ⟨n1, n2, n3, n, n4, n5, n7⟩, fun Q X q => Eq.mp (if_neg (show ¬ ((0 : Int) = 1) by decide)) (g4 Q X q)⟩
  · refine Or.inr ⟨hh, pl, x, g1, g2, g3, fun Q X q => Eq.mp (if_neg (show ¬ ((0 : Int) = 1) by decide)) (g4 Q X q)⟩
theorem ix3 {x y : Int} {R n : Nat} (e : x = R) (e2 : y = n) (h : 3 * R + n ≤ 1000000) : w32 ((w32 (3 * x)) + y) = ((3 * R + n : Nat) : Int) := ixx (ixm (a := 3) e (by omega)) e2 h
/-- the reference notes a name -/
theorem an_note {i R : Nat} {n : Int} (r27 : tI τ 27 = R) (hR : R < 192) (e58 : tA τ 58 R = i) (hi : i ≤ 800) : ∃ σ, FT [58, 59, 60] τ σ ∧ tA σ 58 R = (i + 1 : Nat) ∧ (∀ y : Nat, y ≠ R → tA σ 58 y = tA τ 58 y) ∧ (i < 3 → tA σ 59 (3 * R + i : Nat) = n ∧ tA σ 60 (3 * R + i : Nat) = tI τ 5) ∧ (∀ y : Nat, y ≠ 3 * R + i ∨ 3 ≤ i → tA σ 59 y = tA τ 59 y ∧ tA σ 60 y = tA τ 60 y) ∧
    ∀ (Q : TW → Prop) (I : Int → TW → Prop), ((tI σ 7) = 0 → wpT (e + 6) 4 [] σ (zqV (fun u29 => pT_readAnswer_319 (wpT (e + 6)) Q I u29) zno)) ∧ (¬ ((tI σ 7) = 0) → pT_readAnswer_319 (wpT (e + 6)) Q I σ) → anT (wpT (e + 6)) Q I n τ := by
  by_cases z : 3 ≤ i
  · obtain ⟨σ, hσ⟩ : ∃ σ, σ = sA τ 58 R (i + 1 : Nat) := ⟨_, rfl⟩
    refine ⟨σ, by rw [hσ]; exact (FT.refl _ _).ssA (by decide), by rw [hσ]; simp [tA_sA], fun y hy => by rw [hσ, tA_sA, if_neg (by omega)], fun y => by omega, fun y _ => by rw [hσ]; simp [tA_sA], fun Q I hQ => ?_⟩
    unfold anT
    rw [r27]
    refine ⟨by omega, br1 (by rw [e58]; omega) (bT_readAnswer_295 ?_)⟩
    rw [r27]
    refine ⟨by omega, by omega, fa ?_⟩
    rw [e58, w32_k (by omega), ← hσ]
    exact hQ
  · obtain ⟨σ, hσ⟩ : ∃ σ, σ = sA (sA (sA τ 59 (3 * R + i : Nat) n) 60 (3 * R + i : Nat) (tI τ 5)) 58 R (i + 1 : Nat) := ⟨_, rfl⟩
    refine ⟨σ, by rw [hσ]; exact (((FT.refl _ _).ssA (by decide)).ssA (by decide)).ssA (by decide), by rw [hσ]; simp [tA_sA], fun y hy => by rw [hσ, tA_sA, if_neg (by omega), tA_sA, if_neg (by omega), tA_sA, if_neg (by omega)], fun _ => by rw [hσ]; simp [tA_sA], fun y hy => ?_, fun Q I hQ => ?_⟩
    · have hy' : y ≠ 3 * R + i := by omega
      rw [hσ, tA_sA, if_neg (by omega), tA_sA, if_neg (by omega), tA_sA, if_neg (by omega)]
      refine ⟨rfl, ?_⟩
      rw [tA_sA, if_neg (by omega), tA_sA, if_neg (by omega), tA_sA, if_neg (by omega)]
    · unfold anT
      rw [r27, e58, ix3 (n := i) rfl rfl (by omega)]
      refine ⟨by omega, br0 (by omega) ⟨by omega, by omega, fun u1 hu1 => ?_⟩⟩
      have a27 : tI u1 27 = R := by rw [hu1]; exact r27
      have a58 : tA u1 58 R = i := by rw [hu1, tA_sA, if_neg (by omega)]; exact e58
      rw [a27, a58, ix3 (n := i) rfl rfl (by omega)]
      refine ⟨by omega, by omega, fun u2 hu2 => bT_readAnswer_295 ?_⟩
      have c27 : tI u2 27 = R := by rw [hu2]; exact a27
      have c58 : tA u2 58 R = i := by rw [hu2, tA_sA, if_neg (by omega)]; exact a58
      rw [c27]
      refine ⟨by omega, by omega, fun u3 hu3 => ?_⟩
      rw [c58, w32_k (by omega)] at hu3
      have e3 : u3 = σ := by rw [hu3, hu2, hu1, hσ]; rfl
      rw [e3]
      exact hQ
end ZCall
