/-! a function's columns, both: dead; its state -/
section ZFunc4
variable {p b e d : Nat} {w : CW} {τ : TW}
abbrev SPV : List Nat := [2, 3, 4, 5, 6, 7, 8, 16, 17, 18, 19, 20, 21, 22, 23, 24, 25, 26, 27, 28, 29, 30, 31, 32, 33, 34, 35, 36, 37, 38, 39, 40, 43, 44, 45, 47, 48, 49, 50, 51, 52, 53, 54, 55, 56, 57, 58, 59, 60]
theorem pT_fe209' {M : Nat} {x1 : Int} : (fun (Q : Unit → TW → Prop) => pT_readFunction_209 (wpT M) (fun w => Q () w) x1 τ) = tmL (feT M x1) (fun (_ : Unit → TW → Prop) I => I τ) := rfl
theorem uf_dead123 {h pl : Int} {f : Nat} (D : Dd h pl τ) : DD [7, 8] h pl (fun (Q : Unit → TW → Prop) => wpT (e + 10) 20 [ai 123] τ (zqV (fun u34 => pT_readFunction_209 (wpT (e + 10)) (fun w => Q () w) f u34) zno)) τ := by
  obtain ⟨σ3, ⟨a3, b3, c3⟩, run3⟩ := dd_must (d := e + 6) (c := 123) D
  refine DD.pre (tm' := fun (Q : Unit → TW → Prop) => pT_readFunction_209 (wpT (e + 10)) (fun w => Q () w) f σ3) (S1 := [7, 8]) a3 (fun Q k => run3 _ k) ?_
  rw [pT_fe209']
  exact fe_dead0 (e := e) b3 c3
theorem uf_dead197 {h pl : Int} {f : Nat} (D : Dd h pl τ) : DD [7, 8] h pl (fun (Q : Unit → TW → Prop) => pT_readFunction_197 (wpT (e + 10)) (fun w => Q () w) f τ) τ := by
  obtain ⟨σ3, ⟨a3, b3, c3⟩, run3⟩ := dd_must (d := e + 6) (c := 41) D
  exact DD.pre (tm' := fun (Q : Unit → TW → Prop) => wpT (e + 10) 20 [ai 123] σ3 (zqV (fun u34 => pT_readFunction_209 (wpT (e + 10)) (fun w => Q () w) f u34) zno)) (S1 := [7, 8]) a3 (fun Q k => bT_readFunction_197 (run3 _ k)) (uf_dead123 (e := e) b3)
/-- the loops over columns -/
def ufC (p : Nat) (call : Nat → List ZA → CW → (ZRes → CW → Prop) → Prop) (Q : CW → Prop) (X : Nat → CW → Prop) (x1 : Nat) (I121 : CW → Prop) (u28 : CW) : Prop :=
      call 17 [ar p] u28 (zqI (fun v31 u30 =>
        (hF 46 (tg u30 x1) = true) ∧
        ∀ v33 : Int, v33 = (if ¬ (3 ≤ (fI u30 46 x1)) then 1 else 0) →
        call 10 [ar p, ai v33, ai 9, ai (fI u30 11 p)] u30 (zqV (fun u34 =>
          (hF 45 (tg u34 x1) = true) ∧
          (hF 46 (tg u34 x1) = true) ∧
          (tg u34 (fR u34 45 x1) = 102 ∧ 0 ≤ (fI u34 46 x1) ∧ (fI u34 46 x1) < ln u34 (fR u34 45 x1)) ∧
          ∀ u38 : CW, u38 = qI u34 (fR u34 45 x1) (fI u34 46 x1) v31 →
          (hF 46 (tg u38 x1) = true) ∧
          (hP 46 (tg u38 x1) = true) ∧
          ∀ u41 : CW, u41 = pI u38 46 x1 (w32 ((fI u38 46 x1) + 1)) →
          call 4 [ar p] u41 (zqV (fun u43 =>
            call 16 [ar p, ai 44] u43 (zqI (fun v46 u45 =>
              (v46 = 0 →
                pC_X0_readFunction_186 p call Q X x1 u45) ∧
              (¬ (v46 = 0) →
                I121 u45)) zno)) (fun x73 u74 =>
            X x73 u74))) (fun x75 u76 =>
          X x75 u76))) (fun x79 u80 =>
        X x79 u80))
theorem ufC_i {call : Nat → List ZA → CW → (ZRes → CW → Prop) → Prop} {Q : CW → Prop} {X : Nat → CW → Prop} {x1 : Nat} {I121 : CW → Prop} {u28 : CW} (h : call 17 [ar p] u28 (zqI (fun v31 u30 =>
        (hF 46 (tg u30 x1) = true) ∧
        ∀ v33 : Int, v33 = (if ¬ (3 ≤ (fI u30 46 x1)) then 1 else 0) →
        call 10 [ar p, ai v33, ai 9, ai (fI u30 11 p)] u30 (zqV (fun u34 =>
          (hF 45 (tg u34 x1) = true) ∧
          (hF 46 (tg u34 x1) = true) ∧
          (tg u34 (fR u34 45 x1) = 102 ∧ 0 ≤ (fI u34 46 x1) ∧ (fI u34 46 x1) < ln u34 (fR u34 45 x1)) ∧
          ∀ u38 : CW, u38 = qI u34 (fR u34 45 x1) (fI u34 46 x1) v31 →
          (hF 46 (tg u38 x1) = true) ∧
          (hP 46 (tg u38 x1) = true) ∧
          ∀ u41 : CW, u41 = pI u38 46 x1 (w32 ((fI u38 46 x1) + 1)) →
          call 4 [ar p] u41 (zqV (fun u43 =>
            call 16 [ar p, ai 44] u43 (zqI (fun v46 u45 =>
              (v46 = 0 →
                pC_X0_readFunction_186 p call Q X x1 u45) ∧
              (¬ (v46 = 0) →
                I121 u45)) zno)) (fun x73 u74 =>
            X x73 u74))) (fun x75 u76 =>
          X x75 u76))) (fun x79 u80 =>
        X x79 u80))) : ufC p call Q X x1 I121 u28 := h
def ufLC (p M F : Nat) (Q : Unit → CW → Prop) (X : Nat → CW → Prop) (I121 : CW → Prop) : Prop := ∀ (w : CW), wpC p M 4 [ar p] w (zqV (fun u28 => ufC p (wpC p M) (fun w => Q () w) (fun x w => X x w) F I121 u28) (fun x81 u82 => X x81 u82)) → I121 w
theorem pC_uf121 {M F : Nat} {Q : Unit → CW → Prop} {X : Nat → CW → Prop} {w : CW} : pC_X0_readFunction_121 p (wpC p M) (fun w => Q () w) (fun x w => X x w) F w = ∀ I, ufLC p M F Q X I → I w := rfl
def ufLT (M : Nat) (x1 : Int) (Q : Unit → TW → Prop) (I123 : Int → TW → Prop) : Prop := ∀ (x2 : Int) (w : TW), (
    (¬ (x2 = 0) ∧ ((tI w 7) = 0) →
      (0 ≤ x1 ∧ x1 < 12) ∧
      ∀ v19 : Int, v19 = (if (tA w 43 x1) = 3 then 1 else 0) →
      wpT M 19 [ai v19] w (zqI (fun v21 u20 =>
        ((tI u20 7) = 0 →
          (0 ≤ x1 ∧ x1 < 12) ∧
          (0 ≤ (w32 ((w32 (3 * x1)) + (tA u20 43 x1))) ∧ (w32 ((w32 (3 * x1)) + (tA u20 43 x1))) < 36) ∧
          ∀ u26 : TW, u26 = sA u20 44 (w32 ((w32 (3 * x1)) + (tA u20 43 x1))) v21 →
          (0 ≤ x1 ∧ x1 < 12) ∧
          (0 ≤ x1 ∧ x1 < 12) ∧
          ∀ u29 : TW, u29 = sA u26 43 x1 (w32 ((tA u26 43 x1) + 1)) →
          pT_readFunction_187 (wpT M) (fun w => Q () w) I123 x1 u29) ∧
        (¬ ((tI u20 7) = 0) →
          pT_readFunction_187 (wpT M) (fun w => Q () w) I123 x1 u20)) zno)) ∧
    (¬ (¬ (x2 = 0) ∧ ((tI w 7) = 0)) →
      pT_readFunction_197 (wpT M) (fun w => Q () w) x1 w)) → I123 x2 w
theorem pT_uf123 {M : Nat} {x1 x2 : Int} {Q : Unit → TW → Prop} {w : TW} : pT_readFunction_123 (wpT M) (fun w => Q () w) x1 x2 w = ∀ I, ufLT M x1 Q I → I x2 w := rfl
theorem uf_dead187 {h pl : Int} {f : Nat} (D : Dd h pl τ) : DD [7, 8] h pl (tmL (ufLT (e + 10) f) (fun (Q : Unit → TW → Prop) I => pT_readFunction_187 (wpT (e + 10)) (fun w => Q () w) I f τ)) τ :=
  DD.gT (G' := fun Q _ => pT_readFunction_197 (wpT (e + 10)) (fun w => Q () w) f τ) (fun Q I l k => bT_readFunction_187 (D.takes (e := e + 8) _ (l 0 τ (br0 (fun y => y.1 rfl) k)))) (DD.gO (uf_dead197 (e := e) D))
theorem uf_dead {h pl : Int} {f : Nat} (D : Dd h pl τ) (hf : f < 12) (k0 : 0 ≤ tI τ 10) (k24 : tI τ 10 ≤ 24) : DD [7, 8] h pl (tmL (ufLT (e + 10) f) (fun (_ : Unit → TW → Prop) I => I 1 τ)) τ := by
  have hff : (0 : Int) ≤ (f : Int) ∧ (f : Int) < 12 := by omega
  by_cases h0 : tI τ 7 = 0
  · have h7 : tI τ 3 = 7 ∧ h = 1 ∧ tI τ 5 = pl := by
      rcases D with ⟨a, bb, c⟩ | ⟨a, bb, c, q, -⟩
      · have : tI τ 7 = h := a
        omega
      · exact ⟨bb, c, q⟩
    have hs : srt τ = -1 := by
      unfold srt
      rw [if_neg (by omega), if_neg (by omega)]
    obtain ⟨v19, hv⟩ : ∃ v : Int, v = (if tA τ 43 f = 3 then 1 else 0) := ⟨_, rfl⟩
    obtain ⟨σ', s, ⟨a, bb, c⟩, run⟩ := sT_readSortNo (d := e + 5) (much := v19) k0 k24 h0 hs
    rw [if_pos h7.1, h7.2.2, ← h7.2.1] at bb
    refine DD.pre (tm' := tmL (ufLT (e + 10) f) (fun (Q : Unit → TW → Prop) I => pT_readFunction_187 (wpT (e + 10)) (fun w => Q () w) I f σ')) (S1 := [7, 8]) a (fun Q k I l => l 1 τ (br1 ⟨by decide, h0⟩ ⟨hff, fun v hv2 => ?_⟩)) (uf_dead187 (e := e) bb)
    rw [hv2, ← hv]
    exact run _ (br0 c (k I l))
  · exact DD.gT (G' := fun Q _ => pT_readFunction_197 (wpT (e + 10)) (fun w => Q () w) f τ) (fun Q I l k => l 1 τ (br0 (fun y => h0 y.2) k)) (DD.gO (uf_dead197 (e := e) D))
/-- m columns are read -/
def GCn (p : Nat) (w : CW) (τ : TW) (f F m : Nat) : Prop := FS p w τ ∧ FH p w τ f F ∧ FC w τ f F m ∧ (tA τ 45 f = 0 ∧ fI w 48 F = 0) ∧ fI w 51 F = 0 ∧ f < 12 ∧ (f : Int) < tI τ 41
theorem GCn.gf {f F m : Nat} (h : GCn p w τ f F m) (hm : 1 ≤ m) : GFn p w τ f F m 0 (np τ) := by
  obtain ⟨a1, a2, a3, ⟨a4, a5⟩, a6, a7, a8⟩ := h
  exact ⟨a1, a2, a3, hm, ⟨a4, a5, by decide, (fun _ => np τ), ⟨Nat.le_refl _, Nat.le_refl _⟩, fun i hi => by omega⟩, a6, a7, a8⟩
end ZFunc4
