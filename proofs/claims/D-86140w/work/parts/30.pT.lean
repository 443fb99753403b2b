/-! THE REFERENCE's METHODS as weakest preconditions, printed by tools/twin.py -/
section ZPT
/-! in -/
noncomputable def ff_in (x0 : Int) (x2 : Int) (x4 : Int) (w : TW) : Int := ((if ¬ (x0 < x2) ∧ (¬ (x4 < x0)) then 1 else 0))
theorem fr_in {x0 : Int} {x2 : Int} {x4 : Int} {w : TW} (hw : tok w) (rx0 : zrl x0) (rx2 : zrl x2) (rx4 : zrl x4) : zr (ff_in x0 x2 x4 w) := by unfold ff_in; exact ((zr_ite (zr_k 1 (by decide) (by decide)) (zr_k 0 (by decide) (by decide))))
theorem fb_in (x0 : Int) (x2 : Int) (x4 : Int) (w : TW) : ff_in x0 x2 x4 w = 0 ∨ ff_in x0 x2 x4 w = 1 := by unfold ff_in; exact ((zb_ite (Or.inr rfl) (Or.inl rfl)))
def pT_in_0 (call : Nat → List ZA → TW → (ZRes → TW → Prop) → Prop) (Q : Int → TW → Prop) (x0 : Int) (x2 : Int) (x4 : Int) (w : TW) : Prop :=
  ∀ v1 : Int, v1 = (if ¬ (x0 < x2) ∧ (¬ (x4 < x0)) then 1 else 0) →
  Q v1 w
/-! feed -/
def pT_feed_76 (call : Nat → List ZA → TW → (ZRes → TW → Prop) → Prop) (Q : Int → TW → Prop) (w : TW) : Prop :=
  Q (tI w 1) w
def pT_feed_34 (call : Nat → List ZA → TW → (ZRes → TW → Prop) → Prop) (Q : Int → TW → Prop) (x1 : Int) (x4 : Int) (w : TW) : Prop :=
  ∀ I34 : Int → TW → Prop, (∀ (x4 : Int) (w : TW), (
    (x4 < 0 →
      pT_feed_76 call Q w) ∧
    (¬ (x4 < 0) →
      (0 ≤ (tI w 1) ∧ (tI w 1) < 1600) ∧
      ∀ u7 : TW, u7 = sA w 0 (tI w 1) (w32 (l_and (l_shr x1 (w32 (8 * x4))) 255)) →
      ∀ u9 : TW, u9 = sI u7 1 (w32 ((tI u7 1) + 1)) →
      ∀ x4_10 : Int, x4_10 = w32 (x4 + (-1)) →
      I34 x4_10 u9)) → I34 x4 w) → I34 x4 w
def pT_feed_0 (call : Nat → List ZA → TW → (ZRes → TW → Prop) → Prop) (Q : Int → TW → Prop) (x1 : Int) (x3 : Int) (w : TW) : Prop :=
  ((ff_in x3 1 8 w) = 0 →
    Q (-1) w) ∧
  (¬ ((ff_in x3 1 8 w) = 0) →
    ((w32 ((tI w 1) + x3)) ≤ 1600 →
      ∀ x4_5 : Int, x4_5 = w32 (x3 - 1) →
      pT_feed_34 call Q x1 x4_5 w) ∧
    (¬ ((w32 ((tI w 1) + x3)) ≤ 1600) →
      Q (-3) w))
/-! byteAt -/
noncomputable def ff_byteAt (x1 : Int) (w : TW) : Int := ((if ¬ ((tI w 1) ≤ x1) then tA w 0 x1 else (-1)))
def fo_byteAt (x1 : Int) (w : TW) : Prop := ((¬ ((tI w 1) ≤ x1) → (0 ≤ x1 ∧ x1 < 1600)))
theorem fr_byteAt {x1 : Int} {w : TW} (hw : tok w) (rx1 : zr x1) : zr (ff_byteAt x1 w) := by unfold ff_byteAt; exact ((zr_ite (hw.a 0 _ (by decide)) (zr_k (-1) (by decide) (by decide))))
def pT_byteAt_0 (call : Nat → List ZA → TW → (ZRes → TW → Prop) → Prop) (Q : Int → TW → Prop) (x1 : Int) (w : TW) : Prop :=
  ((¬ ((tI w 1) ≤ x1) → (0 ≤ x1 ∧ x1 < 1600))) ∧
  ∀ v1 : Int, v1 = (if ¬ ((tI w 1) ≤ x1) then tA w 0 x1 else (-1)) →
  Q v1 w
/-! isSmall -/
noncomputable def ff_isSmall (x0 : Int) (w : TW) : Int := ff_in x0 97 122 w
theorem fr_isSmall {x0 : Int} {w : TW} (hw : tok w) (rx0 : zr x0) : zr (ff_isSmall x0 w) := by unfold ff_isSmall; exact (fr_in hw (zrl_i rx0) (zrl_k 97 (by decide) (by decide)) (zrl_k 122 (by decide) (by decide)))
theorem fb_isSmall (x0 : Int) (w : TW) : ff_isSmall x0 w = 0 ∨ ff_isSmall x0 w = 1 := by unfold ff_isSmall; exact (fb_in _ _ _ _)
def pT_isSmall_0 (call : Nat → List ZA → TW → (ZRes → TW → Prop) → Prop) (Q : Int → TW → Prop) (x0 : Int) (w : TW) : Prop :=
  Q (ff_in x0 97 122 w) w
/-! isFigure -/
noncomputable def ff_isFigure (x0 : Int) (w : TW) : Int := ff_in x0 48 57 w
theorem fr_isFigure {x0 : Int} {w : TW} (hw : tok w) (rx0 : zr x0) : zr (ff_isFigure x0 w) := by unfold ff_isFigure; exact (fr_in hw (zrl_i rx0) (zrl_k 48 (by decide) (by decide)) (zrl_k 57 (by decide) (by decide)))
theorem fb_isFigure (x0 : Int) (w : TW) : ff_isFigure x0 w = 0 ∨ ff_isFigure x0 w = 1 := by unfold ff_isFigure; exact (fb_in _ _ _ _)
def pT_isFigure_0 (call : Nat → List ZA → TW → (ZRes → TW → Prop) → Prop) (Q : Int → TW → Prop) (x0 : Int) (w : TW) : Prop :=
  Q (ff_in x0 48 57 w) w
/-! wordOf -/
noncomputable def ff_wordOf (x0 : Int) (w : TW) : Int := ((if x0 = 1802071652 then 0 else (if x0 = 504363246962 then 1 else (if x0 = 1936683636 then 2 else (if x0 = 26982 then 3 else (if x0 = 24947 then 4 else (if x0 = 512853240933 then 5 else (if x0 = 500136506472 then 6 else (if x0 = 1952807028 then 7 else (if x0 = 1953658213 then 8 else (if x0 = 439721161573 then 9 else (if x0 = 1852796517 then 10 else (-1)))))))))))))
theorem fr_wordOf {x0 : Int} {w : TW} (hw : tok w) (rx0 : zrl x0) : zr (ff_wordOf x0 w) := by unfold ff_wordOf; exact ((zr_ite (zr_k 0 (by decide) (by decide)) (zr_ite (zr_k 1 (by decide) (by decide)) (zr_ite (zr_k 2 (by decide) (by decide)) (zr_ite (zr_k 3 (by decide) (by decide)) (zr_ite (zr_k 4 (by decide) (by decide)) (zr_ite (zr_k 5 (by decide) (by decide)) (zr_ite (zr_k 6 (by decide) (by decide)) (zr_ite (zr_k 7 (by decide) (by decide)) (zr_ite (zr_k 8 (by decide) (by decide)) (zr_ite (zr_k 9 (by decide) (by decide)) (zr_ite (zr_k 10 (by decide) (by decide)) (zr_k (-1) (by decide) (by decide))))))))))))))
def pT_wordOf_0 (call : Nat → List ZA → TW → (ZRes → TW → Prop) → Prop) (Q : Int → TW → Prop) (x0 : Int) (w : TW) : Prop :=
  ∀ v1 : Int, v1 = (if x0 = 1802071652 then 0 else (if x0 = 504363246962 then 1 else (if x0 = 1936683636 then 2 else (if x0 = 26982 then 3 else (if x0 = 24947 then 4 else (if x0 = 512853240933 then 5 else (if x0 = 500136506472 then 6 else (if x0 = 1952807028 then 7 else (if x0 = 1953658213 then 8 else (if x0 = 439721161573 then 9 else (if x0 = 1852796517 then 10 else (-1)))))))))))) →
  Q v1 w
/-! name -/
def pT_name_166 (call : Nat → List ZA → TW → (ZRes → TW → Prop) → Prop) (Q : TW → Prop) (w : TW) : Prop :=
  Q w
def pT_name_88 (call : Nat → List ZA → TW → (ZRes → TW → Prop) → Prop) (Q : TW → Prop) (x1 : Int) (w : TW) : Prop :=
  ((w32 ((tI w 6) - (tI w 2))) ≤ 8 →
    ∀ x2_25 : Int, x2_25 = ff_wordOf (tI w 4) w →
    ∀ v28 : Int, v28 = (if (ff_isSmall x1 w) = 0 then 2 else (if x2_25 < 0 then 1 else 6)) →
    ∀ u29 : TW, u29 = sI w 3 v28 →
    ∀ v30 : Int, v30 = (if (tI u29 3) = 6 then x2_25 else tI u29 4) →
    ∀ u31 : TW, u31 = sI u29 4 v30 →
    pT_name_166 call Q u31) ∧
  (¬ ((w32 ((tI w 6) - (tI w 2))) ≤ 8) →
    ∀ u37 : TW, u37 = sI w 3 7 →
    pT_name_166 call Q u37)
def pT_name_8 (call : Nat → List ZA → TW → (ZRes → TW → Prop) → Prop) (Q : TW → Prop) (x1 : Int) (w : TW) : Prop :=
  ∀ I8 : TW → Prop, (∀ (w : TW), (
    ((¬ (8 ≤ (w32 ((tI w 6) - (tI w 2)))) → (fo_byteAt (tI w 6) w))) ∧
    ∀ v6 : Int, v6 = (if ¬ (8 ≤ (w32 ((tI w 6) - (tI w 2)))) then l_or (l_shl (tI w 4) 8) (ff_byteAt (tI w 6) w) else tI w 4) →
    ∀ u8 : TW, u8 = sI w 4 v6 →
    ∀ u9 : TW, u9 = sI u8 6 (w32 ((tI u8 6) + 1)) →
    (fo_byteAt (tI u9 6) u9) ∧
    (((ff_isSmall (ff_byteAt (tI u9 6) u9) u9) = 0 → (fo_byteAt (tI u9 6) u9))) ∧
    (¬ ((ff_isSmall (ff_byteAt (tI u9 6) u9) u9) = 0) ∨ (¬ ((ff_isFigure (ff_byteAt (tI u9 6) u9) u9) = 0)) →
      I8 u9) ∧
    (¬ (¬ ((ff_isSmall (ff_byteAt (tI u9 6) u9) u9) = 0) ∨ (¬ ((ff_isFigure (ff_byteAt (tI u9 6) u9) u9) = 0))) →
      pT_name_88 call Q x1 u9)) → I8 w) → I8 w
def pT_name_0 (call : Nat → List ZA → TW → (ZRes → TW → Prop) → Prop) (Q : TW → Prop) (x1 : Int) (w : TW) : Prop :=
  ∀ u1 : TW, u1 = sI w 6 (tI w 2) →
  pT_name_8 call Q x1 u1
/-! next -/
def pT_next_34 (call : Nat → List ZA → TW → (ZRes → TW → Prop) → Prop) (Q : TW → Prop) (I8 : TW → Prop) (w : TW) : Prop :=
  ∀ u10 : TW, u10 = sI w 2 (w32 ((tI w 2) + 1)) →
  I8 u10
def pT_next_549 (call : Nat → List ZA → TW → (ZRes → TW → Prop) → Prop) (Q : TW → Prop) (w : TW) : Prop :=
  Q w
def pT_next_121 (call : Nat → List ZA → TW → (ZRes → TW → Prop) → Prop) (Q : TW → Prop) (x1 : Int) (w : TW) : Prop :=
  call 7 [ai x1] w (zqV (fun u37 =>
    pT_next_549 call Q u37) zno)
def pT_next_421 (call : Nat → List ZA → TW → (ZRes → TW → Prop) → Prop) (Q : TW → Prop) (x1 : Int) (w : TW) : Prop :=
  ∀ v54 : Int, v54 = (if (x1 = 59) ∨ ((x1 = 44) ∨ ((x1 = 40) ∨ ((x1 = 41) ∨ ((x1 = 123) ∨ ((x1 = 125) ∨ ((x1 = 58) ∨ ((x1 = 124) ∨ ((x1 = 95) ∨ ((x1 = 60) ∨ ((x1 = 61) ∨ ((x1 = 62) ∨ ((x1 = 43) ∨ ((x1 = 45) ∨ ((x1 = 42) ∨ ((x1 = 47) ∨ (x1 = 37)))))))))))))))) then 1 else 0) →
  ∀ v55 : Int, v55 = (if ¬ (v54 = 0) then 5 else 7) →
  ∀ u56 : TW, u56 = sI w 3 v55 →
  ∀ u57 : TW, u57 = sI u56 4 x1 →
  pT_next_549 call Q u57
def pT_next_325 (call : Nat → List ZA → TW → (ZRes → TW → Prop) → Prop) (Q : TW → Prop) (w : TW) : Prop :=
  (fo_byteAt (tI w 6) w) ∧
  ∀ v92 : Int, v92 = (if ((ff_byteAt (tI w 6) w) = 39) ∧ (¬ (9 < (w32 ((tI w 6) - (tI w 2))))) then 4 else 7) →
  ∀ u93 : TW, u93 = sI w 3 v92 →
  ∀ u94 : TW, u94 = sI u93 6 (w32 ((tI u93 6) + 1)) →
  pT_next_549 call Q u94
def pT_next_256 (call : Nat → List ZA → TW → (ZRes → TW → Prop) → Prop) (Q : TW → Prop) (w : TW) : Prop :=
  ∀ I256 : TW → Prop, (∀ (w : TW), (
    (fo_byteAt (tI w 6) w) ∧
    ((ff_isSmall (ff_byteAt (tI w 6) w) w) = 0 →
      pT_next_325 call Q w) ∧
    (¬ ((ff_isSmall (ff_byteAt (tI w 6) w) w) = 0) →
      ((¬ (9 ≤ (w32 ((tI w 6) - (tI w 2)))) → (fo_byteAt (tI w 6) w))) ∧
      ∀ v102 : Int, v102 = (if ¬ (9 ≤ (w32 ((tI w 6) - (tI w 2)))) then l_or (l_shl (tI w 4) 8) (ff_byteAt (tI w 6) w) else tI w 4) →
      ∀ u104 : TW, u104 = sI w 4 v102 →
      ∀ u105 : TW, u105 = sI u104 6 (w32 ((tI u104 6) + 1)) →
      I256 u105)) → I256 w) → I256 w
def pT_next_223 (call : Nat → List ZA → TW → (ZRes → TW → Prop) → Prop) (Q : TW → Prop) (w : TW) : Prop :=
  ∀ v116 : Int, v116 = (if ¬ ((w32 ((tI w 6) - (tI w 2))) ≤ 9) then 7 else 3) →
  ∀ u117 : TW, u117 = sI w 3 v116 →
  pT_next_549 call Q u117
def pT_next_149 (call : Nat → List ZA → TW → (ZRes → TW → Prop) → Prop) (Q : TW → Prop) (w : TW) : Prop :=
  ∀ I149 : TW → Prop, (∀ (w : TW), (
    (fo_byteAt (tI w 6) w) ∧
    ((ff_isFigure (ff_byteAt (tI w 6) w) w) = 0 →
      pT_next_223 call Q w) ∧
    (¬ ((ff_isFigure (ff_byteAt (tI w 6) w) w) = 0) →
      ((¬ (9 ≤ (w32 ((tI w 6) - (tI w 2)))) → (fo_byteAt (tI w 6) w))) ∧
      ∀ v124 : Int, v124 = (if ¬ (9 ≤ (w32 ((tI w 6) - (tI w 2)))) then w64 ((w64 ((w64 (10 * (tI w 4))) + (ff_byteAt (tI w 6) w))) - 48) else tI w 4) →
      ∀ u126 : TW, u126 = sI w 4 v124 →
      ∀ u127 : TW, u127 = sI u126 6 (w32 ((tI u126 6) + 1)) →
      I149 u127)) → I149 w) → I149 w
def pT_next_47 (call : Nat → List ZA → TW → (ZRes → TW → Prop) → Prop) (Q : TW → Prop) (w : TW) : Prop :=
  ∀ u11 : TW, u11 = sI w 5 (tI w 2) →
  (fo_byteAt (tI u11 2) u11) ∧
  ∀ x1_15 : Int, x1_15 = ff_byteAt (tI u11 2) u11 →
  ∀ u16 : TW, u16 = sI u11 4 0 →
  ∀ u17 : TW, u17 = sI u16 6 (w32 ((tI u16 2) + 1)) →
  (x1_15 = (-1) →
    ∀ u135 : TW, u135 = sI u17 3 0 →
    ∀ u136 : TW, u136 = sI u135 6 (tI u135 2) →
    pT_next_549 call Q u136) ∧
  (¬ (x1_15 = (-1)) →
    (¬ ((ff_isSmall x1_15 u17) = 0) ∨ (¬ ((ff_in x1_15 65 90 u17) = 0)) →
      pT_next_121 call Q x1_15 u17) ∧
    (¬ (¬ ((ff_isSmall x1_15 u17) = 0) ∨ (¬ ((ff_in x1_15 65 90 u17) = 0))) →
      ((ff_isFigure x1_15 u17) = 0 →
        (x1_15 = 39 →
          pT_next_256 call Q u17) ∧
        (¬ (x1_15 = 39) →
          ((x1_15 = 46 → (fo_byteAt (w32 ((tI u17 2) + 1)) u17))) ∧
          ((x1_15 = 46) ∧ ((ff_byteAt (w32 ((tI u17 2) + 1)) u17) = 46) →
            ∀ u51 : TW, u51 = sI u17 3 5 →
            ∀ u52 : TW, u52 = sI u51 4 256 →
            ∀ u53 : TW, u53 = sI u52 6 (w32 ((tI u52 2) + 2)) →
            pT_next_549 call Q u53) ∧
          (¬ ((x1_15 = 46) ∧ ((ff_byteAt (w32 ((tI u17 2) + 1)) u17) = 46)) →
            pT_next_421 call Q x1_15 u17))) ∧
      (¬ ((ff_isFigure x1_15 u17) = 0) →
        ∀ u108 : TW, u108 = sI u17 3 3 →
        ∀ u109 : TW, u109 = sI u108 6 (tI u108 2) →
        pT_next_149 call Q u109)))
def pT_next_8 (call : Nat → List ZA → TW → (ZRes → TW → Prop) → Prop) (Q : TW → Prop) (w : TW) : Prop :=
  ∀ I8 : TW → Prop, (∀ (w : TW), (
    (fo_byteAt (tI w 2) w) ∧
    ((¬ ((ff_byteAt (tI w 2) w) = 32) → (fo_byteAt (tI w 2) w))) ∧
    (((ff_byteAt (tI w 2) w) = 32) ∨ ((ff_byteAt (tI w 2) w) = 10) →
      pT_next_34 call Q I8 w) ∧
    (¬ (((ff_byteAt (tI w 2) w) = 32) ∨ ((ff_byteAt (tI w 2) w) = 10)) →
      pT_next_47 call Q w)) → I8 w) → I8 w
def pT_next_0 (call : Nat → List ZA → TW → (ZRes → TW → Prop) → Prop) (Q : TW → Prop) (w : TW) : Prop :=
  ∀ u1 : TW, u1 = sI w 2 (tI w 6) →
  pT_next_8 call Q u1
/-! beginTape -/
def pT_beginTape_0 (call : Nat → List ZA → TW → (ZRes → TW → Prop) → Prop) (Q : TW → Prop) (w : TW) : Prop :=
  ∀ u1 : TW, u1 = sI w 7 0 →
  ∀ u2 : TW, u2 = sI u1 6 0 →
  call 4 [] u2 (zqV (fun u3 =>
    Q u3) zno)
/-! isWord -/
noncomputable def ff_isWord (x1 : Int) (w : TW) : Int := ((if ((tI w 3) = 6) ∧ ((tI w 4) = x1) then 1 else 0))
theorem fr_isWord {x1 : Int} {w : TW} (hw : tok w) (rx1 : zr x1) : zr (ff_isWord x1 w) := by unfold ff_isWord; exact ((zr_ite (zr_k 1 (by decide) (by decide)) (zr_k 0 (by decide) (by decide))))
theorem fb_isWord (x1 : Int) (w : TW) : ff_isWord x1 w = 0 ∨ ff_isWord x1 w = 1 := by unfold ff_isWord; exact ((zb_ite (Or.inr rfl) (Or.inl rfl)))
def pT_isWord_0 (call : Nat → List ZA → TW → (ZRes → TW → Prop) → Prop) (Q : Int → TW → Prop) (x1 : Int) (w : TW) : Prop :=
  ∀ v1 : Int, v1 = (if ((tI w 3) = 6) ∧ ((tI w 4) = x1) then 1 else 0) →
  Q v1 w
/-! fails -/
def pT_fails_17 (call : Nat → List ZA → TW → (ZRes → TW → Prop) → Prop) (Q : TW → Prop) (w : TW) : Prop :=
  Q w
def pT_fails_0 (call : Nat → List ZA → TW → (ZRes → TW → Prop) → Prop) (Q : TW → Prop) (x1 : Int) (x2 : Int) (w : TW) : Prop :=
  ((tI w 7) = 0 →
    ∀ u2 : TW, u2 = sI w 7 x1 →
    ∀ u3 : TW, u3 = sI u2 8 x2 →
    pT_fails_17 call Q u3) ∧
  (¬ ((tI w 7) = 0) →
    pT_fails_17 call Q w)
/-! stop -/
def pT_stop_0 (call : Nat → List ZA → TW → (ZRes → TW → Prop) → Prop) (Q : TW → Prop) (x1 : Int) (w : TW) : Prop :=
  ∀ v1 : Int, v1 = (if (tI w 3) = 7 then 1 else x1) →
  call 13 [ai v1, ai (tI w 5)] w (zqV (fun u2 =>
    Q u2) zno)
/-! kindOf -/
def pT_kindOf_40 (call : Nat → List ZA → TW → (ZRes → TW → Prop) → Prop) (Q : Int → TW → Prop) (x3 : Int) (w : TW) : Prop :=
  Q x3 w
def pT_kindOf_6 (call : Nat → List ZA → TW → (ZRes → TW → Prop) → Prop) (Q : Int → TW → Prop) (x1 : Int) (x3 : Int) (x4 : Int) (w : TW) : Prop :=
  ∀ I6 : Int → Int → TW → Prop, (∀ (x3 : Int) (x4 : Int) (w : TW), (
    ((tI w 10) ≤ x4 →
      pT_kindOf_40 call Q x3 w) ∧
    (¬ ((tI w 10) ≤ x4) →
      (0 ≤ x4 ∧ x4 < 24) ∧
      ∀ v3 : Int, v3 = (if (tA w 12 x4) = x1 then x4 else x3) →
      ∀ x4_4 : Int, x4_4 = w32 (x4 + 1) →
      I6 v3 x4_4 w)) → I6 x3 x4 w) → I6 x3 x4 w
def pT_kindOf_0 (call : Nat → List ZA → TW → (ZRes → TW → Prop) → Prop) (Q : Int → TW → Prop) (x1 : Int) (w : TW) : Prop :=
  pT_kindOf_6 call Q x1 (-4) 0 w
/-! isSealed -/
def pT_isSealed_38 (call : Nat → List ZA → TW → (ZRes → TW → Prop) → Prop) (Q : Int → TW → Prop) (x2 : Int) (w : TW) : Prop :=
  (x2 = 0 ∨ x2 = 1) ∧
  Q x2 w
def pT_isSealed_4 (call : Nat → List ZA → TW → (ZRes → TW → Prop) → Prop) (Q : Int → TW → Prop) (x1 : Int) (x2 : Int) (x3 : Int) (w : TW) : Prop :=
  ∀ I4 : Int → Int → TW → Prop, (∀ (x2 : Int) (x3 : Int) (w : TW), (
    ((tI w 10) ≤ x3 →
      pT_isSealed_38 call Q x2 w) ∧
    (¬ ((tI w 10) ≤ x3) →
      ((x2 = 0 → (0 ≤ x3 ∧ x3 < 24))) ∧
      ∀ v2 : Int, v2 = (if ¬ (x2 = 0) ∨ ((tA w 13 x3) = x1) then 1 else 0) →
      ∀ x3_4 : Int, x3_4 = w32 (x3 + 1) →
      I4 v2 x3_4 w)) → I4 x2 x3 w) → I4 x2 x3 w
def pT_isSealed_0 (call : Nat → List ZA → TW → (ZRes → TW → Prop) → Prop) (Q : Int → TW → Prop) (x1 : Int) (w : TW) : Prop :=
  pT_isSealed_4 call Q x1 0 0 w
/-! readUnder -/
def pT_readUnder_94 (call : Nat → List ZA → TW → (ZRes → TW → Prop) → Prop) (Q : TW → Prop) (w : TW) : Prop :=
  Q w
def pT_readUnder_38 (call : Nat → List ZA → TW → (ZRes → TW → Prop) → Prop) (Q : TW → Prop) (w : TW) : Prop :=
  call 13 [ai 4, ai (tI w 5)] w (zqV (fun u5 =>
    pT_readUnder_94 call Q u5) zno)
def pT_readUnder_71 (call : Nat → List ZA → TW → (ZRes → TW → Prop) → Prop) (Q : TW → Prop) (w : TW) : Prop :=
  call 13 [ai 5, ai (tI w 5)] w (zqV (fun u8 =>
    pT_readUnder_94 call Q u8) zno)
def pT_readUnder_83 (call : Nat → List ZA → TW → (ZRes → TW → Prop) → Prop) (Q : TW → Prop) (x1 : Int) (x3 : Int) (w : TW) : Prop :=
  (0 ≤ x1 ∧ x1 < 24) ∧
  ∀ u10 : TW, u10 = sA w 13 x1 x3 →
  call 4 [] u10 (zqV (fun u12 =>
    pT_readUnder_94 call Q u12) zno)
def pT_readUnder_0 (call : Nat → List ZA → TW → (ZRes → TW → Prop) → Prop) (Q : TW → Prop) (x1 : Int) (x2 : Int) (w : TW) : Prop :=
  call 4 [] w (zqV (fun u1 =>
    ((tI u1 3) = 2 →
      call 14 [al (tI u1 4)] u1 (zqI (fun v4 u3 =>
        ((v4 = (-4)) ∨ (v4 = x1) →
          pT_readUnder_38 call Q u3) ∧
        (¬ ((v4 = (-4)) ∨ (v4 = x1)) →
          (0 ≤ v4 ∧ v4 < 24) ∧
          (0 < (tA u3 14 v4) →
            pT_readUnder_71 call Q u3) ∧
          (¬ (0 < (tA u3 14 v4)) →
            (x2 = 0 →
              pT_readUnder_83 call Q x1 v4 u3) ∧
            (¬ (x2 = 0) →
              call 16 [ai v4] u3 (zqI (fun v14 u13 =>
                (v14 = 0 →
                  pT_readUnder_71 call Q u13) ∧
                (¬ (v14 = 0) →
                  pT_readUnder_83 call Q x1 v4 u13)) zno))))) zno)) ∧
    (¬ ((tI u1 3) = 2) →
      call 12 [ai 2] u1 (zqV (fun u21 =>
        Q u21) zno))) zno)
/-! isSign -/
noncomputable def ff_isSign (x1 : Int) (w : TW) : Int := ((if ((tI w 3) = 5) ∧ ((tI w 4) = x1) then 1 else 0))
theorem fr_isSign {x1 : Int} {w : TW} (hw : tok w) (rx1 : zr x1) : zr (ff_isSign x1 w) := by unfold ff_isSign; exact ((zr_ite (zr_k 1 (by decide) (by decide)) (zr_k 0 (by decide) (by decide))))
theorem fb_isSign (x1 : Int) (w : TW) : ff_isSign x1 w = 0 ∨ ff_isSign x1 w = 1 := by unfold ff_isSign; exact ((zb_ite (Or.inr rfl) (Or.inl rfl)))
def pT_isSign_0 (call : Nat → List ZA → TW → (ZRes → TW → Prop) → Prop) (Q : Int → TW → Prop) (x1 : Int) (w : TW) : Prop :=
  ∀ v1 : Int, v1 = (if ((tI w 3) = 5) ∧ ((tI w 4) = x1) then 1 else 0) →
  Q v1 w
/-! takes -/
def pT_takes_29 (call : Nat → List ZA → TW → (ZRes → TW → Prop) → Prop) (Q : Int → TW → Prop) (x2 : Int) (w : TW) : Prop :=
  (x2 = 0 ∨ x2 = 1) ∧
  Q x2 w
def pT_takes_0 (call : Nat → List ZA → TW → (ZRes → TW → Prop) → Prop) (Q : Int → TW → Prop) (x1 : Int) (w : TW) : Prop :=
  ∀ v5 : Int, v5 = (if ((tI w 7) = 0) ∧ (¬ ((ff_isSign x1 w) = 0)) then 1 else 0) →
  (v5 = 0 →
    pT_takes_29 call Q v5 w) ∧
  (¬ (v5 = 0) →
    call 4 [] w (zqV (fun u7 =>
      pT_takes_29 call Q v5 u7) zno))
/-! readSort -/
def pT_readSort_107 (call : Nat → List ZA → TW → (ZRes → TW → Prop) → Prop) (Q : Int → TW → Prop) (x2 : Int) (w : TW) : Prop :=
  Q x2 w
def pT_readSort_96 (call : Nat → List ZA → TW → (ZRes → TW → Prop) → Prop) (Q : Int → TW → Prop) (x2 : Int) (w : TW) : Prop :=
  ((tI w 7) = 0 →
    call 4 [] w (zqV (fun u8 =>
      pT_readSort_107 call Q x2 u8) zno)) ∧
  (¬ ((tI w 7) = 0) →
    pT_readSort_107 call Q x2 w)
def pT_readSort_82 (call : Nat → List ZA → TW → (ZRes → TW → Prop) → Prop) (Q : Int → TW → Prop) (x1 : Int) (x2 : Int) (w : TW) : Prop :=
  (x1 = 0 →
    pT_readSort_96 call Q x2 w) ∧
  (¬ (x1 = 0) →
    call 13 [ai 9, ai (tI w 5)] w (zqV (fun u9 =>
      pT_readSort_96 call Q x2 u9) zno))
def pT_readSort_71 (call : Nat → List ZA → TW → (ZRes → TW → Prop) → Prop) (Q : Int → TW → Prop) (x1 : Int) (x2 : Int) (w : TW) : Prop :=
  ∀ x2_15 : Int, x2_15 = w32 (x2 + 3) →
  pT_readSort_82 call Q x1 x2_15 w
def pT_readSort_39 (call : Nat → List ZA → TW → (ZRes → TW → Prop) → Prop) (Q : Int → TW → Prop) (x1 : Int) (x2 : Int) (w : TW) : Prop :=
  ((tI w 3) = 2 →
    call 14 [al (tI w 4)] w (zqI (fun v13 u12 =>
      (v13 = (-4) →
        call 13 [ai 4, ai (tI u12 5)] u12 (zqV (fun u16 =>
          pT_readSort_71 call Q x1 v13 u16) zno)) ∧
      (¬ (v13 = (-4)) →
        pT_readSort_71 call Q x1 v13 u12)) zno)) ∧
  (¬ ((tI w 3) = 2) →
    call 12 [ai 2] w (zqV (fun u11 =>
      pT_readSort_82 call Q x1 x2 u11) zno))
def pT_readSort_0 (call : Nat → List ZA → TW → (ZRes → TW → Prop) → Prop) (Q : Int → TW → Prop) (x1 : Int) (w : TW) : Prop :=
  (((tI w 3) = 6) ∧ (¬ ((ff_in (tI w 4) 5 7 w) = 0)) →
    ∀ x2_5 : Int, x2_5 = w32 ((w32 (tI w 4)) - 5) →
    pT_readSort_82 call Q x1 x2_5 w) ∧
  (¬ (((tI w 3) = 6) ∧ (¬ ((ff_in (tI w 4) 5 7 w) = 0))) →
    pT_readSort_39 call Q x1 (-4) w)
/-! must -/
def pT_must_20 (call : Nat → List ZA → TW → (ZRes → TW → Prop) → Prop) (Q : TW → Prop) (w : TW) : Prop :=
  Q w
def pT_must_0 (call : Nat → List ZA → TW → (ZRes → TW → Prop) → Prop) (Q : TW → Prop) (x1 : Int) (w : TW) : Prop :=
  ((tI w 7) = 0 →
    call 17 [ai x1] w (zqI (fun v3 u2 =>
      (v3 = 0 →
        call 12 [ai 2] u2 (zqV (fun u5 =>
          pT_must_20 call Q u5) zno)) ∧
      (¬ (v3 = 0) →
        pT_must_20 call Q u2)) zno)) ∧
  (¬ ((tI w 7) = 0) →
    pT_must_20 call Q w)
/-! readKind -/
def pT_readKind_235 (call : Nat → List ZA → TW → (ZRes → TW → Prop) → Prop) (Q : TW → Prop) (w : TW) : Prop :=
  call 20 [ai 59] w (zqV (fun u24 =>
    Q u24) zno)
def pT_readKind_219 (call : Nat → List ZA → TW → (ZRes → TW → Prop) → Prop) (Q : TW → Prop) (I153 : Int → TW → Prop) (x2 : Int) (w : TW) : Prop :=
  call 17 [ai 44] w (zqI (fun v31 u30 =>
    I153 v31 u30) zno)
def pT_readKind_229 (call : Nat → List ZA → TW → (ZRes → TW → Prop) → Prop) (Q : TW → Prop) (w : TW) : Prop :=
  call 20 [ai 41] w (zqV (fun u40 =>
    pT_readKind_235 call Q u40) zno)
def pT_readKind_153 (call : Nat → List ZA → TW → (ZRes → TW → Prop) → Prop) (Q : TW → Prop) (x2 : Int) (x3 : Int) (w : TW) : Prop :=
  ∀ I153 : Int → TW → Prop, (∀ (x3 : Int) (w : TW), (
    (¬ (x3 = 0) ∧ ((tI w 7) = 0) →
      (0 ≤ x2 ∧ x2 < 24) ∧
      ∀ v26 : Int, v26 = (if (tA w 14 x2) = 4 then 1 else 0) →
      call 19 [ai v26] w (zqI (fun v28 u27 =>
        ((tI u27 7) = 0 →
          (0 ≤ x2 ∧ x2 < 24) ∧
          (0 ≤ (w32 ((w32 (4 * x2)) + (tA u27 14 x2))) ∧ (w32 ((w32 (4 * x2)) + (tA u27 14 x2))) < 96) ∧
          ∀ u33 : TW, u33 = sA u27 15 (w32 ((w32 (4 * x2)) + (tA u27 14 x2))) v28 →
          (0 ≤ x2 ∧ x2 < 24) ∧
          (0 ≤ x2 ∧ x2 < 24) ∧
          ∀ u36 : TW, u36 = sA u33 14 x2 (w32 ((tA u33 14 x2) + 1)) →
          pT_readKind_219 call Q I153 x2 u36) ∧
        (¬ ((tI u27 7) = 0) →
          pT_readKind_219 call Q I153 x2 u27)) zno)) ∧
    (¬ (¬ (x3 = 0) ∧ ((tI w 7) = 0)) →
      pT_readKind_229 call Q w)) → I153 x3 w) → I153 x3 w
def pT_readKind_142 (call : Nat → List ZA → TW → (ZRes → TW → Prop) → Prop) (Q : TW → Prop) (x2 : Int) (w : TW) : Prop :=
  call 17 [ai 40] w (zqI (fun v22 u21 =>
    (v22 = 0 →
      pT_readKind_235 call Q u21) ∧
    (¬ (v22 = 0) →
      pT_readKind_153 call Q x2 1 u21)) zno)
def pT_readKind_64 (call : Nat → List ZA → TW → (ZRes → TW → Prop) → Prop) (Q : TW → Prop) (x1 : Int) (w : TW) : Prop :=
  ((tI w 7) = 0 →
    ∀ x2_8 : Int, x2_8 = tI w 10 →
    ∀ u9 : TW, u9 = sI w 10 (w32 ((tI w 10) + 1)) →
    (0 ≤ x2_8 ∧ x2_8 < 24) ∧
    ∀ u10 : TW, u10 = sA u9 12 x2_8 (tI u9 4) →
    (0 ≤ x2_8 ∧ x2_8 < 24) ∧
    ∀ u12 : TW, u12 = sA u10 13 x2_8 (-4) →
    (0 ≤ x2_8 ∧ x2_8 < 24) ∧
    ∀ u14 : TW, u14 = sA u12 14 x2_8 0 →
    call 4 [] u14 (zqV (fun u16 =>
      ((ff_isWord 1 u16) = 0 →
        (x1 = 0 →
          pT_readKind_142 call Q x2_8 u16) ∧
        (¬ (x1 = 0) →
          call 12 [ai 2] u16 (zqV (fun u46 =>
            pT_readKind_142 call Q x2_8 u46) zno))) ∧
      (¬ ((ff_isWord 1 u16) = 0) →
        call 15 [ai x2_8, ai x1] u16 (zqV (fun u47 =>
          pT_readKind_142 call Q x2_8 u47) zno))) zno)) ∧
  (¬ ((tI w 7) = 0) →
    Q w)
def pT_readKind_0 (call : Nat → List ZA → TW → (ZRes → TW → Prop) → Prop) (Q : TW → Prop) (x1 : Int) (w : TW) : Prop :=
  call 4 [] w (zqV (fun u1 =>
    ((tI u1 3) = 2 →
      call 14 [al (tI u1 4)] u1 (zqI (fun v4 u3 =>
        (v4 = (-4) →
          ((tI u3 10) = 24 →
            call 13 [ai 9, ai (tI u3 5)] u3 (zqV (fun u48 =>
              pT_readKind_64 call Q x1 u48) zno)) ∧
          (¬ ((tI u3 10) = 24) →
            pT_readKind_64 call Q x1 u3)) ∧
        (¬ (v4 = (-4)) →
          call 13 [ai 3, ai (tI u3 5)] u3 (zqV (fun u49 =>
            pT_readKind_64 call Q x1 u49) zno))) zno)) ∧
    (¬ ((tI u1 3) = 2) →
      call 12 [ai 2] u1 (zqV (fun u50 =>
        pT_readKind_64 call Q x1 u50) zno))) zno)
/-! functionOf -/
def pT_functionOf_40 (call : Nat → List ZA → TW → (ZRes → TW → Prop) → Prop) (Q : Int → TW → Prop) (x3 : Int) (w : TW) : Prop :=
  Q x3 w
def pT_functionOf_6 (call : Nat → List ZA → TW → (ZRes → TW → Prop) → Prop) (Q : Int → TW → Prop) (x1 : Int) (x3 : Int) (x4 : Int) (w : TW) : Prop :=
  ∀ I6 : Int → Int → TW → Prop, (∀ (x3 : Int) (x4 : Int) (w : TW), (
    ((tI w 41) ≤ x4 →
      pT_functionOf_40 call Q x3 w) ∧
    (¬ ((tI w 41) ≤ x4) →
      (0 ≤ x4 ∧ x4 < 12) ∧
      ∀ v3 : Int, v3 = (if (tA w 42 x4) = x1 then x4 else x3) →
      ∀ x4_4 : Int, x4_4 = w32 (x4 + 1) →
      I6 v3 x4_4 w)) → I6 x3 x4 w) → I6 x3 x4 w
def pT_functionOf_0 (call : Nat → List ZA → TW → (ZRes → TW → Prop) → Prop) (Q : Int → TW → Prop) (x1 : Int) (w : TW) : Prop :=
  pT_functionOf_6 call Q x1 (-4) 0 w
/-! isOf -/
def pT_isOf_21 (call : Nat → List ZA → TW → (ZRes → TW → Prop) → Prop) (Q : Int → TW → Prop) (x2 : Int) (x3 : Int) (w : TW) : Prop :=
  ∀ v3 : Int, v3 = (if x3 = x2 then 1 else 0) →
  Q v3 w
def pT_isOf_2 (call : Nat → List ZA → TW → (ZRes → TW → Prop) → Prop) (Q : Int → TW → Prop) (x2 : Int) (x3 : Int) (w : TW) : Prop :=
  ∀ I2 : Int → TW → Prop, (∀ (x3 : Int) (w : TW), (
    (¬ (x3 < 0) ∧ (¬ (x3 = x2)) →
      (0 ≤ x3 ∧ x3 < 24) ∧
      ∀ x3_2 : Int, x3_2 = tA w 13 x3 →
      I2 x3_2 w) ∧
    (¬ (¬ (x3 < 0) ∧ (¬ (x3 = x2))) →
      pT_isOf_21 call Q x2 x3 w)) → I2 x3 w) → I2 x3 w
def pT_isOf_0 (call : Nat → List ZA → TW → (ZRes → TW → Prop) → Prop) (Q : Int → TW → Prop) (x1 : Int) (x2 : Int) (w : TW) : Prop :=
  pT_isOf_2 call Q x2 x1 w
/-! newPattern -/
def pT_newPattern_0 (call : Nat → List ZA → TW → (ZRes → TW → Prop) → Prop) (Q : Int → TW → Prop) (x1 : Int) (x2 : Int) (w : TW) : Prop :=
  ∀ x3_1 : Int, x3_1 = tI w 16 →
  ∀ u2 : TW, u2 = sI w 16 (w32 ((tI w 16) + 1)) →
  (0 ≤ x3_1 ∧ x3_1 < 1700) ∧
  ∀ u3 : TW, u3 = sA u2 17 x3_1 x1 →
  (0 ≤ x3_1 ∧ x3_1 < 1700) ∧
  ∀ u5 : TW, u5 = sA u3 18 x3_1 x2 →
  (0 ≤ x3_1 ∧ x3_1 < 1700) ∧
  ∀ u7 : TW, u7 = sA u5 19 x3_1 0 →
  (0 ≤ x3_1 ∧ x3_1 < 1700) ∧
  ∀ u9 : TW, u9 = sA u7 20 x3_1 0 →
  (0 ≤ x3_1 ∧ x3_1 < 1700) ∧
  ∀ u11 : TW, u11 = sA u9 21 x3_1 0 →
  (0 ≤ x3_1 ∧ x3_1 < 1700) ∧
  ∀ u13 : TW, u13 = sA u11 22 x3_1 (-4) →
  (0 ≤ x3_1 ∧ x3_1 < 1700) ∧
  ∀ u15 : TW, u15 = sA u13 23 x3_1 (-4) →
  (0 ≤ x3_1 ∧ x3_1 < 1700) ∧
  ∀ u17 : TW, u17 = sA u15 24 x3_1 (-4) →
  (0 ≤ x3_1 ∧ x3_1 < 1700) ∧
  ∀ u19 : TW, u19 = sA u17 25 x3_1 (-4) →
  (0 ≤ x3_1 ∧ x3_1 < 1700) ∧
  ∀ u21 : TW, u21 = sA u19 26 x3_1 1 →
  Q x3_1 u21
/-! nameOf -/
def pT_nameOf_53 (call : Nat → List ZA → TW → (ZRes → TW → Prop) → Prop) (Q : Int → TW → Prop) (x3 : Int) (w : TW) : Prop :=
  Q x3 w
def pT_nameOf_6 (call : Nat → List ZA → TW → (ZRes → TW → Prop) → Prop) (Q : Int → TW → Prop) (x1 : Int) (x3 : Int) (x4 : Int) (w : TW) : Prop :=
  ∀ I6 : Int → Int → TW → Prop, (∀ (x3 : Int) (x4 : Int) (w : TW), (
    (0 ≤ (tI w 27) ∧ (tI w 27) < 192) ∧
    ((tA w 28 (tI w 27)) ≤ x4 →
      pT_nameOf_53 call Q x3 w) ∧
    (¬ ((tA w 28 (tI w 27)) ≤ x4) →
      (0 ≤ (w32 ((w32 (8 * (tI w 27))) + x4)) ∧ (w32 ((w32 (8 * (tI w 27))) + x4)) < 1536) ∧
      ∀ v4 : Int, v4 = (if (tA w 29 (w32 ((w32 (8 * (tI w 27))) + x4))) = x1 then x4 else x3) →
      ∀ x4_5 : Int, x4_5 = w32 (x4 + 1) →
      I6 v4 x4_5 w)) → I6 x3 x4 w) → I6 x3 x4 w
def pT_nameOf_0 (call : Nat → List ZA → TW → (ZRes → TW → Prop) → Prop) (Q : Int → TW → Prop) (x1 : Int) (w : TW) : Prop :=
  pT_nameOf_6 call Q x1 (-4) 0 w
/-! binds -/
def pT_binds_120 (call : Nat → List ZA → TW → (ZRes → TW → Prop) → Prop) (Q : Int → TW → Prop) (x1 : Int) (x2 : Int) (w : TW) : Prop :=
  (0 ≤ (w32 ((w32 (8 * (tI w 27))) + x2)) ∧ (w32 ((w32 (8 * (tI w 27))) + x2)) < 1536) ∧
  ∀ u6 : TW, u6 = sA w 30 (w32 ((w32 (8 * (tI w 27))) + x2)) x1 →
  ∀ u8 : TW, u8 = sI u6 31 (i_or (tI u6 31) (i_shl 1 x2)) →
  Q x2 u8
def pT_binds_65 (call : Nat → List ZA → TW → (ZRes → TW → Prop) → Prop) (Q : Int → TW → Prop) (x1 : Int) (x2 : Int) (w : TW) : Prop :=
  ((tI w 7) = 0 →
    (0 ≤ x2 →
      pT_binds_120 call Q x1 x2 w) ∧
    (¬ (0 ≤ x2) →
      (0 ≤ (tI w 27) ∧ (tI w 27) < 192) ∧
      ∀ x2_10 : Int, x2_10 = tA w 28 (tI w 27) →
      (0 ≤ (tI w 27) ∧ (tI w 27) < 192) ∧
      (0 ≤ (tI w 27) ∧ (tI w 27) < 192) ∧
      ∀ u12 : TW, u12 = sA w 28 (tI w 27) (w32 ((tA w 28 (tI w 27)) + 1)) →
      (0 ≤ (w32 ((w32 (8 * (tI u12 27))) + x2_10)) ∧ (w32 ((w32 (8 * (tI u12 27))) + x2_10)) < 1536) ∧
      ∀ u14 : TW, u14 = sA u12 29 (w32 ((w32 (8 * (tI u12 27))) + x2_10)) (tI u12 4) →
      pT_binds_120 call Q x1 x2_10 u14)) ∧
  (¬ ((tI w 7) = 0) →
    Q (-4) w)
def pT_binds_37 (call : Nat → List ZA → TW → (ZRes → TW → Prop) → Prop) (Q : Int → TW → Prop) (x1 : Int) (x2 : Int) (w : TW) : Prop :=
  ((¬ (0 ≤ x2) → (0 ≤ (tI w 27) ∧ (tI w 27) < 192))) ∧
  (¬ (0 ≤ x2) ∧ ((tA w 28 (tI w 27)) = 8) →
    call 13 [ai 9, ai (tI w 5)] w (zqV (fun u17 =>
      pT_binds_65 call Q x1 x2 u17) zno)) ∧
  (¬ (¬ (0 ≤ x2) ∧ ((tA w 28 (tI w 27)) = 8)) →
    pT_binds_65 call Q x1 x2 w)
def pT_binds_0 (call : Nat → List ZA → TW → (ZRes → TW → Prop) → Prop) (Q : Int → TW → Prop) (x1 : Int) (w : TW) : Prop :=
  call 28 [al (tI w 4)] w (zqI (fun v2 u1 =>
    (¬ (v2 < 0) ∧ ((i_and (i_shr (tI u1 31) v2) 1) = 1) →
      call 13 [ai 3, ai (tI u1 5)] u1 (zqV (fun u3 =>
        pT_binds_65 call Q x1 v2 u3) zno)) ∧
    (¬ (¬ (v2 < 0) ∧ ((i_and (i_shr (tI u1 31) v2) 1) = 1)) →
      pT_binds_37 call Q x1 v2 u1)) zno)
/-! number -/
def pT_number_44 (call : Nat → List ZA → TW → (ZRes → TW → Prop) → Prop) (Q : Int → TW → Prop) (x1 : Int) (x2 : Int) (w : TW) : Prop :=
  ∀ v6 : Int, v6 = (if ¬ (x1 = 0) then w32 (-x2) else x2) →
  Q v6 w
def pT_number_27 (call : Nat → List ZA → TW → (ZRes → TW → Prop) → Prop) (Q : Int → TW → Prop) (x1 : Int) (w : TW) : Prop :=
  ∀ x2_4 : Int, x2_4 = w32 (tI w 4) →
  ((tI w 7) = 0 →
    call 4 [] w (zqV (fun u9 =>
      pT_number_44 call Q x1 x2_4 u9) zno)) ∧
  (¬ ((tI w 7) = 0) →
    pT_number_44 call Q x1 x2_4 w)
def pT_number_0 (call : Nat → List ZA → TW → (ZRes → TW → Prop) → Prop) (Q : Int → TW → Prop) (w : TW) : Prop :=
  call 17 [ai 45] w (zqI (fun v2 u1 =>
    (((tI u1 7) = 0) ∧ (¬ ((tI u1 3) = 3)) →
      call 12 [ai 2] u1 (zqV (fun u3 =>
        pT_number_27 call Q v2 u3) zno)) ∧
    (¬ (((tI u1 7) = 0) ∧ (¬ ((tI u1 3) = 3))) →
      pT_number_27 call Q v2 u1)) zno)
/-! range -/
def pT_range_75 (call : Nat → List ZA → TW → (ZRes → TW → Prop) → Prop) (Q : TW → Prop) (w : TW) : Prop :=
  Q w
def pT_range_0 (call : Nat → List ZA → TW → (ZRes → TW → Prop) → Prop) (Q : TW → Prop) (x1 : Int) (x2 : Int) (w : TW) : Prop :=
  call 31 [] w (zqI (fun v2 u1 =>
    (0 ≤ x1 ∧ x1 < 1700) ∧
    ∀ u3 : TW, u3 = sA u1 19 x1 v2 →
    (0 ≤ x1 ∧ x1 < 1700) ∧
    (0 ≤ x1 ∧ x1 < 1700) ∧
    ∀ u6 : TW, u6 = sA u3 20 x1 (tA u3 19 x1) →
    (((tI u6 7) = 0) ∧ (¬ ((ff_isSign 256 u6) = 0)) →
      call 4 [] u6 (zqV (fun u12 =>
        call 31 [] u12 (zqI (fun v14 u13 =>
          (0 ≤ x1 ∧ x1 < 1700) ∧
          ∀ u15 : TW, u15 = sA u13 20 x1 v14 →
          (0 ≤ x1 ∧ x1 < 1700) ∧
          (0 ≤ x1 ∧ x1 < 1700) ∧
          ((tA u15 19 x1) ≤ (tA u15 20 x1) →
            pT_range_75 call Q u15) ∧
          (¬ ((tA u15 19 x1) ≤ (tA u15 20 x1)) →
            call 13 [ai 7, ai x2] u15 (zqV (fun u20 =>
              pT_range_75 call Q u20) zno))) zno)) zno)) ∧
    (¬ (((tI u6 7) = 0) ∧ (¬ ((ff_isSign 256 u6) = 0))) →
      pT_range_75 call Q u6)) zno)
/-! opens -/
def pT_opens_0 (call : Nat → List ZA → TW → (ZRes → TW → Prop) → Prop) (Q : TW → Prop) (x1 : Int) (x2 : Int) (w : TW) : Prop :=
  (0 ≤ (tI w 32) ∧ (tI w 32) < 8) ∧
  ∀ u1 : TW, u1 = sA w 33 (tI w 32) x1 →
  (0 ≤ (tI u1 32) ∧ (tI u1 32) < 8) ∧
  ∀ u3 : TW, u3 = sA u1 34 (tI u1 32) 0 →
  (0 ≤ (tI u3 32) ∧ (tI u3 32) < 8) ∧
  ∀ u5 : TW, u5 = sA u3 35 (tI u3 32) (-4) →
  (0 ≤ (tI u5 32) ∧ (tI u5 32) < 8) ∧
  ∀ u7 : TW, u7 = sA u5 36 (tI u5 32) x2 →
  (0 ≤ (tI u7 32) ∧ (tI u7 32) < 8) ∧
  ∀ u9 : TW, u9 = sA u7 37 (tI u7 32) (tI u7 31) →
  (0 ≤ (tI u9 32) ∧ (tI u9 32) < 8) ∧
  ∀ u11 : TW, u11 = sA u9 38 (tI u9 32) 0 →
  (0 ≤ (tI u11 32) ∧ (tI u11 32) < 8) ∧
  ∀ u13 : TW, u13 = sA u11 39 (tI u11 32) (zb 0) →
  ∀ u15 : TW, u15 = sI u13 32 (w32 ((tI u13 32) + 1)) →
  Q u15
/-! begins -/
def pT_begins_619 (call : Nat → List ZA → TW → (ZRes → TW → Prop) → Prop) (Q : Int → TW → Prop) (x9 : Int) (w : TW) : Prop :=
  Q x9 w
def pT_begins_600 (call : Nat → List ZA → TW → (ZRes → TW → Prop) → Prop) (Q : Int → TW → Prop) (x3 : Int) (x9 : Int) (w : TW) : Prop :=
  (0 ≤ x9 ∧ x9 < 1700) ∧
  ((tA w 17 x9) = 6 →
    call 32 [ai x9, ai x3] w (zqV (fun u79 =>
      pT_begins_619 call Q x9 u79) zno)) ∧
  (¬ ((tA w 17 x9) = 6) →
    pT_begins_619 call Q x9 w)
def pT_begins_450 (call : Nat → List ZA → TW → (ZRes → TW → Prop) → Prop) (Q : Int → TW → Prop) (x3 : Int) (x4 : Int) (x8 : Int) (x9 : Int) (w : TW) : Prop :=
  ∀ v58 : Int, v58 = (if (tI w 3) = 2 then x8 else (if (ff_isWord 8 w) = 0 then 0 else 1)) →
  (0 ≤ x9 ∧ x9 < 1700) ∧
  ∀ u59 : TW, u59 = sA w 19 x9 v58 →
  ∀ v61 : Int, v61 = (if (tI u59 3) = 4 then tI u59 4 else 0) →
  (0 ≤ x9 ∧ x9 < 1700) ∧
  ∀ u62 : TW, u62 = sA u59 21 x9 v61 →
  ((tI u62 7) = 0 →
    (x4 = 0 →
      call 4 [] u62 (zqV (fun u66 =>
        (0 ≤ x9 ∧ x9 < 1700) ∧
        (((tA u66 17 x9) = 5) ∧ (((tI u66 7) = 0) ∧ (¬ ((ff_isSign 40 u66) = 0))) →
          (0 ≤ x8 ∧ x8 < 24) ∧
          ((tA u66 14 x8) = 0 →
            call 13 [ai 6, ai (tI u66 5)] u66 (zqV (fun u76 =>
              pT_begins_619 call Q x9 u76) zno)) ∧
          (¬ ((tA u66 14 x8) = 0) →
            call 4 [] u66 (zqV (fun u74 =>
              call 32 [ai x9, ai x3] u74 (zqV (fun u75 =>
                pT_begins_619 call Q x9 u75) zno)) zno))) ∧
        (¬ (((tA u66 17 x9) = 5) ∧ (((tI u66 7) = 0) ∧ (¬ ((ff_isSign 40 u66) = 0)))) →
          pT_begins_600 call Q x3 x9 u66)) zno)) ∧
    (¬ (x4 = 0) →
      call 30 [ai x9, ai x3] u62 (zqV (fun u86 =>
        Q x9 u86) zno))) ∧
  (¬ ((tI u62 7) = 0) →
    Q (-4) u62)
def pT_begins_420 (call : Nat → List ZA → TW → (ZRes → TW → Prop) → Prop) (Q : Int → TW → Prop) (x1 : Int) (x3 : Int) (x4 : Int) (x8 : Int) (x9 : Int) (w : TW) : Prop :=
  ((tI w 7) = 0 →
    ((tI w 3) = 1 →
      call 29 [ai x1] w (zqI (fun v93 u92 =>
        (0 ≤ x9 ∧ x9 < 1700) ∧
        ∀ u94 : TW, u94 = sA u92 24 x9 v93 →
        pT_begins_450 call Q x3 x4 x8 x9 u94) zno)) ∧
    (¬ ((tI w 3) = 1) →
      pT_begins_450 call Q x3 x4 x8 x9 w)) ∧
  (¬ ((tI w 7) = 0) →
    Q (-4) w)
def pT_begins_409 (call : Nat → List ZA → TW → (ZRes → TW → Prop) → Prop) (Q : Int → TW → Prop) (x1 : Int) (x2 : Int) (x3 : Int) (x4 : Int) (x8 : Int) (x9 : Int) (w : TW) : Prop :=
  (x2 = 0 →
    pT_begins_420 call Q x1 x3 x4 x8 x9 w) ∧
  (¬ (x2 = 0) →
    call 13 [ai 9, ai x3] w (zqV (fun u96 =>
      pT_begins_420 call Q x1 x3 x4 x8 x9 u96) zno))
def pT_begins_283 (call : Nat → List ZA → TW → (ZRes → TW → Prop) → Prop) (Q : Int → TW → Prop) (x1 : Int) (x2 : Int) (x3 : Int) (x4 : Int) (x5 : Int) (x8 : Int) (w : TW) : Prop :=
  ∀ v45 : Int, v45 = (if x4 = 0 then (if x5 = 0 then (if (tI w 3) = 4 then 3 else (if (tI w 3) = 2 then 5 else (if (ff_isSign 40 w) = 0 then (if (ff_isWord 10 w) = 0 then 0 else 4) else 6))) else 2) else 1) →
  call 27 [ai v45, ai x1] w (zqI (fun v47 u46 =>
    (((tI u46 3) = 1) ∧ ((tI u46 7) = 0) →
      call 28 [al (tI u46 4)] u46 (zqI (fun v49 u48 =>
        (¬ (v49 < 0) ∧ ((i_and (i_shr (tI u48 31) v49) 1) = 1) →
          call 13 [ai 3, ai x3] u48 (zqV (fun u50 =>
            pT_begins_409 call Q x1 x2 x3 x4 x8 v47 u50) zno)) ∧
        (¬ (¬ (v49 < 0) ∧ ((i_and (i_shr (tI u48 31) v49) 1) = 1)) →
          pT_begins_409 call Q x1 x2 x3 x4 x8 v47 u48)) zno)) ∧
    (¬ (((tI u46 3) = 1) ∧ ((tI u46 7) = 0)) →
      pT_begins_409 call Q x1 x2 x3 x4 x8 v47 u46)) zno)
def pT_begins_277 (call : Nat → List ZA → TW → (ZRes → TW → Prop) → Prop) (Q : Int → TW → Prop) (x1 : Int) (x2 : Int) (x3 : Int) (x4 : Int) (x5 : Int) (x8 : Int) (w : TW) : Prop :=
  call 13 [ai 5, ai x3] w (zqV (fun u115 =>
    pT_begins_283 call Q x1 x2 x3 x4 x5 x8 u115) zno)
def pT_begins_235 (call : Nat → List ZA → TW → (ZRes → TW → Prop) → Prop) (Q : Int → TW → Prop) (x1 : Int) (x2 : Int) (x3 : Int) (x4 : Int) (x5 : Int) (x7 : Int) (x8 : Int) (w : TW) : Prop :=
  (x7 = 0 →
    ((tI w 3) = 2 →
      (x1 < 3 →
        pT_begins_277 call Q x1 x2 x3 x4 x5 x8 w) ∧
      (¬ (x1 < 3) →
        call 26 [ai x8, ai (w32 (x1 - 3))] w (zqI (fun v119 u118 =>
          (v119 = 0 →
            call 26 [ai (w32 (x1 - 3)), ai x8] u118 (zqI (fun v122 u121 =>
              (v122 = 0 →
                pT_begins_277 call Q x1 x2 x3 x4 x5 x8 u121) ∧
              (¬ (v122 = 0) →
                pT_begins_283 call Q x1 x2 x3 x4 x5 x8 u121)) zno)) ∧
          (¬ (v119 = 0) →
            pT_begins_283 call Q x1 x2 x3 x4 x5 x8 u118)) zno))) ∧
    (¬ ((tI w 3) = 2) →
      pT_begins_283 call Q x1 x2 x3 x4 x5 x8 w)) ∧
  (¬ (x7 = 0) →
    pT_begins_277 call Q x1 x2 x3 x4 x5 x8 w)
def pT_begins_209 (call : Nat → List ZA → TW → (ZRes → TW → Prop) → Prop) (Q : Int → TW → Prop) (x1 : Int) (x2 : Int) (x3 : Int) (x4 : Int) (x5 : Int) (x7 : Int) (s0 : Int) (w : TW) : Prop :=
  (((tI w 3) = 2) ∧ (s0 = (-4)) →
    call 13 [ai 4, ai x3] w (zqV (fun u36 =>
      pT_begins_283 call Q x1 x2 x3 x4 x5 s0 u36) zno)) ∧
  (¬ (((tI w 3) = 2) ∧ (s0 = (-4))) →
    pT_begins_235 call Q x1 x2 x3 x4 x5 x7 s0 w)
def pT_begins_0 (call : Nat → List ZA → TW → (ZRes → TW → Prop) → Prop) (Q : Int → TW → Prop) (x1 : Int) (x2 : Int) (w : TW) : Prop :=
  ∀ x3_1 : Int, x3_1 = tI w 5 →
  ∀ v6 : Int, v6 = (if ((tI w 3) = 3) ∨ (¬ ((ff_isSign 45 w) = 0)) then 1 else 0) →
  ∀ v13 : Int, v13 = (if ¬ ((ff_isWord 8 w) = 0) ∨ (¬ ((ff_isWord 9 w) = 0)) then 1 else 0) →
  ∀ v26 : Int, v26 = (if ¬ (v6 = 0) ∨ (¬ (v13 = 0) ∨ (((tI w 3) = 4) ∨ (((tI w 3) = 1) ∨ (((tI w 3) = 2) ∨ (¬ ((ff_isSign 95 w) = 0) ∨ (¬ ((ff_isSign 40 w) = 0) ∨ (¬ ((ff_isWord 10 w) = 0)))))))) then 1 else 0) →
  (v26 = 0 →
    call 12 [ai 2] w (zqV (fun u162 =>
      Q (-4) u162) zno)) ∧
  (¬ (v26 = 0) →
    ∀ v34 : Int, v34 = (if ((v6 = 0) ∧ (((v13 = 0) ∧ ((((tI w 3) = 4) ∧ (¬ (x1 = 2) ∨ (¬ ((ff_isWord 10 w) = 0) ∧ (¬ (3 ≤ x1))))) ∨ (¬ ((tI w 3) = 4) ∧ (¬ ((ff_isWord 10 w) = 0) ∧ (¬ (3 ≤ x1)))))) ∨ (¬ (v13 = 0) ∧ (¬ (x1 = 1) ∨ ((((tI w 3) = 4) ∧ (¬ (x1 = 2) ∨ (¬ ((ff_isWord 10 w) = 0) ∧ (¬ (3 ≤ x1))))) ∨ (¬ ((tI w 3) = 4) ∧ (¬ ((ff_isWord 10 w) = 0) ∧ (¬ (3 ≤ x1))))))))) ∨ (¬ (v6 = 0) ∧ (¬ (x1 = 0) ∨ (((v13 = 0) ∧ ((((tI w 3) = 4) ∧ (¬ (x1 = 2) ∨ (¬ ((ff_isWord 10 w) = 0) ∧ (¬ (3 ≤ x1))))) ∨ (¬ ((tI w 3) = 4) ∧ (¬ ((ff_isWord 10 w) = 0) ∧ (¬ (3 ≤ x1)))))) ∨ (¬ (v13 = 0) ∧ (¬ (x1 = 1) ∨ ((((tI w 3) = 4) ∧ (¬ (x1 = 2) ∨ (¬ ((ff_isWord 10 w) = 0) ∧ (¬ (3 ≤ x1))))) ∨ (¬ ((tI w 3) = 4) ∧ (¬ ((ff_isWord 10 w) = 0) ∧ (¬ (3 ≤ x1)))))))))) then 1 else 0) →
    ((tI w 3) = 2 →
      call 14 [al (tI w 4)] w (zqI (fun v130 u129 =>
        pT_begins_209 call Q x1 x2 x3_1 v6 v13 v34 v130 u129) zno)) ∧
    (¬ ((tI w 3) = 2) →
      pT_begins_209 call Q x1 x2 x3_1 v6 v13 v34 (-4) w))
/-! wanted -/
noncomputable def ff_wanted (w : TW) : Int := ((if (tA w 17 (tA w 33 (w32 ((tI w 32) - 1)))) = 5 then tA w 15 (w32 ((w32 (4 * (tA w 19 (tA w 33 (w32 ((tI w 32) - 1)))))) + (tA w 34 (w32 ((tI w 32) - 1))))) else tA w 18 (tA w 33 (w32 ((tI w 32) - 1)))))
def fo_wanted (w : TW) : Prop := (0 ≤ (w32 ((tI w 32) - 1)) ∧ (w32 ((tI w 32) - 1)) < 8) ∧ (0 ≤ (tA w 33 (w32 ((tI w 32) - 1))) ∧ (tA w 33 (w32 ((tI w 32) - 1))) < 1700) ∧ (((tA w 17 (tA w 33 (w32 ((tI w 32) - 1)))) = 5 → (0 ≤ (tA w 33 (w32 ((tI w 32) - 1))) ∧ (tA w 33 (w32 ((tI w 32) - 1))) < 1700) ∧ (0 ≤ (w32 ((tI w 32) - 1)) ∧ (w32 ((tI w 32) - 1)) < 8) ∧ (0 ≤ (w32 ((w32 (4 * (tA w 19 (tA w 33 (w32 ((tI w 32) - 1)))))) + (tA w 34 (w32 ((tI w 32) - 1))))) ∧ (w32 ((w32 (4 * (tA w 19 (tA w 33 (w32 ((tI w 32) - 1)))))) + (tA w 34 (w32 ((tI w 32) - 1))))) < 96)) ∧ (¬ ((tA w 17 (tA w 33 (w32 ((tI w 32) - 1)))) = 5) → (0 ≤ (tA w 33 (w32 ((tI w 32) - 1))) ∧ (tA w 33 (w32 ((tI w 32) - 1))) < 1700)))
theorem fr_wanted {w : TW} (hw : tok w) : zr (ff_wanted w) := by unfold ff_wanted; exact ((zr_ite (hw.a 15 _ (by decide)) (hw.a 18 _ (by decide))))
def pT_wanted_0 (call : Nat → List ZA → TW → (ZRes → TW → Prop) → Prop) (Q : Int → TW → Prop) (w : TW) : Prop :=
  (0 ≤ (w32 ((tI w 32) - 1)) ∧ (w32 ((tI w 32) - 1)) < 8) ∧
  ∀ x1_2 : Int, x1_2 = tA w 33 (w32 ((tI w 32) - 1)) →
  (0 ≤ x1_2 ∧ x1_2 < 1700) ∧
  (((tA w 17 x1_2) = 5 → (0 ≤ x1_2 ∧ x1_2 < 1700) ∧ (0 ≤ (w32 ((tI w 32) - 1)) ∧ (w32 ((tI w 32) - 1)) < 8) ∧ (0 ≤ (w32 ((w32 (4 * (tA w 19 x1_2))) + (tA w 34 (w32 ((tI w 32) - 1))))) ∧ (w32 ((w32 (4 * (tA w 19 x1_2))) + (tA w 34 (w32 ((tI w 32) - 1))))) < 96)) ∧ (¬ ((tA w 17 x1_2) = 5) → (0 ≤ x1_2 ∧ x1_2 < 1700))) ∧
  ∀ v4 : Int, v4 = (if (tA w 17 x1_2) = 5 then tA w 15 (w32 ((w32 (4 * (tA w 19 x1_2))) + (tA w 34 (w32 ((tI w 32) - 1))))) else tA w 18 x1_2) →
  Q v4 w
/-! readAs -/
def pT_readAs_62 (call : Nat → List ZA → TW → (ZRes → TW → Prop) → Prop) (Q : TW → Prop) (w : TW) : Prop :=
  Q w
def pT_readAs_51 (call : Nat → List ZA → TW → (ZRes → TW → Prop) → Prop) (Q : TW → Prop) (w : TW) : Prop :=
  ((tI w 7) = 0 →
    call 4 [] w (zqV (fun u13 =>
      pT_readAs_62 call Q u13) zno)) ∧
  (¬ ((tI w 7) = 0) →
    pT_readAs_62 call Q w)
def pT_readAs_0 (call : Nat → List ZA → TW → (ZRes → TW → Prop) → Prop) (Q : TW → Prop) (x1 : Int) (w : TW) : Prop :=
  (((tI w 7) = 0) ∧ (¬ ((ff_isWord 4 w) = 0)) →
    call 4 [] w (zqV (fun u5 =>
      ((tI u5 3) = 1 →
        (0 ≤ x1 ∧ x1 < 1700) ∧
        call 29 [ai (tA u5 18 x1)] u5 (zqI (fun v9 u8 =>
          (0 ≤ x1 ∧ x1 < 1700) ∧
          ∀ u10 : TW, u10 = sA u8 25 x1 v9 →
          pT_readAs_51 call Q u10) zno)) ∧
      (¬ ((tI u5 3) = 1) →
        call 12 [ai 2] u5 (zqV (fun u14 =>
          pT_readAs_51 call Q u14) zno))) zno)) ∧
  (¬ (((tI w 7) = 0) ∧ (¬ ((ff_isWord 4 w) = 0))) →
    pT_readAs_62 call Q w)
/-! comesInto -/
def pT_comesInto_122 (call : Nat → List ZA → TW → (ZRes → TW → Prop) → Prop) (Q : TW → Prop) (x1 : Int) (x2 : Int) (w : TW) : Prop :=
  (0 ≤ x2 ∧ x2 < 8) ∧
  ∀ u15 : TW, u15 = sA w 35 x2 x1 →
  (0 ≤ x2 ∧ x2 < 8) ∧
  (0 ≤ x2 ∧ x2 < 8) ∧
  ∀ u18 : TW, u18 = sA u15 34 x2 (w32 ((tA u15 34 x2) + 1)) →
  Q u18
def pT_comesInto_0 (call : Nat → List ZA → TW → (ZRes → TW → Prop) → Prop) (Q : TW → Prop) (x1 : Int) (w : TW) : Prop :=
  ∀ x2_1 : Int, x2_1 = w32 ((tI w 32) - 1) →
  (0 ≤ x2_1 ∧ x2_1 < 8) ∧
  ∀ x3_3 : Int, x3_3 = tA w 33 x2_1 →
  (0 ≤ x2_1 ∧ x2_1 < 8) ∧
  ((tA w 35 x2_1) = (-4) →
    (0 ≤ x3_3 ∧ x3_3 < 1700) ∧
    ∀ u24 : TW, u24 = sA w 22 x3_3 x1 →
    (0 ≤ x1 ∧ x1 < 1700) ∧
    (0 ≤ x3_3 ∧ x3_3 < 1700) ∧
    ∀ u27 : TW, u27 = sA u24 26 x3_3 (tA u24 26 x1) →
    pT_comesInto_122 call Q x1 x2_1 u27) ∧
  (¬ ((tA w 35 x2_1) = (-4)) →
    (0 ≤ x2_1 ∧ x2_1 < 8) ∧
    (0 ≤ (tA w 35 x2_1) ∧ (tA w 35 x2_1) < 1700) ∧
    ∀ u7 : TW, u7 = sA w 23 (tA w 35 x2_1) x1 →
    (0 ≤ x3_3 ∧ x3_3 < 1700) ∧
    (((tA u7 17 x3_3) = 5 → (0 ≤ x3_3 ∧ x3_3 < 1700) ∧ (0 ≤ x1 ∧ x1 < 1700)) ∧ (¬ ((tA u7 17 x3_3) = 5) → (0 ≤ x3_3 ∧ x3_3 < 1700) ∧ (0 ≤ x1 ∧ x1 < 1700))) ∧
    ∀ v10 : Int, v10 = (if (tA u7 17 x3_3) = 5 then w32 ((tA u7 26 x3_3) * (tA u7 26 x1)) else w32 ((tA u7 26 x3_3) + (tA u7 26 x1))) →
    ∀ v12 : Int, v12 = (if ¬ (v10 ≤ 1000) then 1000 else v10) →
    (0 ≤ x3_3 ∧ x3_3 < 1700) ∧
    ∀ u13 : TW, u13 = sA u7 26 x3_3 v12 →
    pT_comesInto_122 call Q x1 x2_1 u13)
/-! endsAlternative -/
def pT_endsAlternative_201 (call : Nat → List ZA → TW → (ZRes → TW → Prop) → Prop) (Q : TW → Prop) (w : TW) : Prop :=
  Q w
def pT_endsAlternative_177 (call : Nat → List ZA → TW → (ZRes → TW → Prop) → Prop) (Q : TW → Prop) (x1 : Int) (x2 : Int) (w : TW) : Prop :=
  (0 ≤ x1 ∧ x1 < 8) ∧
  ∀ v8 : Int, v8 = (if ¬ ((tA w 39 x1) = 0) ∨ (¬ (x2 = 0)) then 1 else 0) →
  (0 ≤ x1 ∧ x1 < 8) ∧
  ∀ u9 : TW, u9 = sA w 39 x1 (zb v8) →
  pT_endsAlternative_201 call Q u9
def pT_endsAlternative_90 (call : Nat → List ZA → TW → (ZRes → TW → Prop) → Prop) (Q : TW → Prop) (x1 : Int) (x2 : Int) (x3 : Int) (w : TW) : Prop :=
  ∀ I90 : Int → Int → TW → Prop, (∀ (x2 : Int) (x3 : Int) (w : TW), (
    (8 ≤ x3 →
      pT_endsAlternative_177 call Q x1 x2 w) ∧
    (¬ (8 ≤ x3) →
      (((i_and (i_shr (tI w 31) x3) 1) = 1 → (0 ≤ x1 ∧ x1 < 8))) ∧
      ∀ v14 : Int, v14 = (if ((i_and (i_shr (tI w 31) x3) 1) = 1) ∧ ((i_and (i_shr (tA w 37 x1) x3) 1) = 0) then 1 else 0) →
      ((x2 = 0 → (¬ (v14 = 0) → (0 ≤ (w32 ((w32 (8 * x1)) + x3)) ∧ (w32 ((w32 (8 * x1)) + x3)) < 64) ∧ (0 ≤ (w32 ((w32 (8 * (tI w 27))) + x3)) ∧ (w32 ((w32 (8 * (tI w 27))) + x3)) < 1536)))) ∧
      ∀ v16 : Int, v16 = (if ¬ (x2 = 0) ∨ (¬ (v14 = 0) ∧ (¬ ((tA w 40 (w32 ((w32 (8 * x1)) + x3))) = (tA w 30 (w32 ((w32 (8 * (tI w 27))) + x3)))))) then 1 else 0) →
      ∀ x3_18 : Int, x3_18 = w32 (x3 + 1) →
      I90 v16 x3_18 w)) → I90 x2 x3 w) → I90 x2 x3 w
def pT_endsAlternative_66 (call : Nat → List ZA → TW → (ZRes → TW → Prop) → Prop) (Q : TW → Prop) (w : TW) : Prop :=
  pT_endsAlternative_201 call Q w
def pT_endsAlternative_29 (call : Nat → List ZA → TW → (ZRes → TW → Prop) → Prop) (Q : TW → Prop) (x1 : Int) (x2 : Int) (w : TW) : Prop :=
  ∀ I29 : Int → TW → Prop, (∀ (x2 : Int) (w : TW), (
    (8 ≤ x2 →
      pT_endsAlternative_66 call Q w) ∧
    (¬ (8 ≤ x2) →
      (0 ≤ (w32 ((w32 (8 * (tI w 27))) + x2)) ∧ (w32 ((w32 (8 * (tI w 27))) + x2)) < 1536) ∧
      (0 ≤ (w32 ((w32 (8 * x1)) + x2)) ∧ (w32 ((w32 (8 * x1)) + x2)) < 64) ∧
      ∀ u32 : TW, u32 = sA w 40 (w32 ((w32 (8 * x1)) + x2)) (tA w 30 (w32 ((w32 (8 * (tI w 27))) + x2))) →
      ∀ x2_34 : Int, x2_34 = w32 (x2 + 1) →
      I29 x2_34 u32)) → I29 x2 w) → I29 x2 w
def pT_endsAlternative_0 (call : Nat → List ZA → TW → (ZRes → TW → Prop) → Prop) (Q : TW → Prop) (w : TW) : Prop :=
  ∀ x1_1 : Int, x1_1 = w32 ((tI w 32) - 1) →
  (0 ≤ x1_1 ∧ x1_1 < 8) ∧
  ((tA w 34 x1_1) = 1 →
    (0 ≤ x1_1 ∧ x1_1 < 8) ∧
    ∀ u28 : TW, u28 = sA w 38 x1_1 (tI w 31) →
    pT_endsAlternative_29 call Q x1_1 0 u28) ∧
  (¬ ((tA w 34 x1_1) = 1) →
    (0 ≤ x1_1 ∧ x1_1 < 8) ∧
    ∀ v5 : Int, v5 = (if ¬ ((tI w 31) = (tA w 38 x1_1)) then 1 else 0) →
    pT_endsAlternative_90 call Q x1_1 v5 0 w)
/-! goesOn -/
def pT_goesOn_210 (call : Nat → List ZA → TW → (ZRes → TW → Prop) → Prop) (Q : Int → TW → Prop) (w : TW) : Prop :=
  call 20 [ai 41] w (zqV (fun u21 =>
    Q 0 u21) zno)
def pT_goesOn_160 (call : Nat → List ZA → TW → (ZRes → TW → Prop) → Prop) (Q : Int → TW → Prop) (x1 : Int) (x3 : Int) (w : TW) : Prop :=
  ∀ I160 : Int → TW → Prop, (∀ (x3 : Int) (w : TW), (
    (8 ≤ x3 →
      pT_goesOn_210 call Q w) ∧
    (¬ (8 ≤ x3) →
      (0 ≤ x1 ∧ x1 < 8) ∧
      ((¬ ((tA w 34 x1) ≤ 0) → (0 ≤ (w32 ((w32 (8 * x1)) + x3)) ∧ (w32 ((w32 (8 * x1)) + x3)) < 64))) ∧
      ∀ v28 : Int, v28 = (if ¬ ((tA w 34 x1) ≤ 0) then tA w 40 (w32 ((w32 (8 * x1)) + x3)) else 0) →
      (0 ≤ (w32 ((w32 (8 * (tI w 27))) + x3)) ∧ (w32 ((w32 (8 * (tI w 27))) + x3)) < 1536) ∧
      ∀ u30 : TW, u30 = sA w 30 (w32 ((w32 (8 * (tI w 27))) + x3)) v28 →
      ∀ x3_32 : Int, x3_32 = w32 (x3 + 1) →
      I160 x3_32 u30)) → I160 x3 w) → I160 x3 w
def pT_goesOn_148 (call : Nat → List ZA → TW → (ZRes → TW → Prop) → Prop) (Q : Int → TW → Prop) (x1 : Int) (w : TW) : Prop :=
  (0 ≤ x1 ∧ x1 < 8) ∧
  ∀ u25 : TW, u25 = sI w 31 (tA w 38 x1) →
  pT_goesOn_160 call Q x1 0 u25
def pT_goesOn_85 (call : Nat → List ZA → TW → (ZRes → TW → Prop) → Prop) (Q : Int → TW → Prop) (w : TW) : Prop :=
  call 20 [ai 41] w (zqV (fun u52 =>
    Q 0 u52) zno)
def pT_goesOn_59 (call : Nat → List ZA → TW → (ZRes → TW → Prop) → Prop) (Q : Int → TW → Prop) (w : TW) : Prop :=
  call 17 [ai 44] w (zqI (fun v58 u57 =>
    (v58 = 0 ∨ v58 = 1) ∧
    Q v58 u57) zno)
def pT_goesOn_0 (call : Nat → List ZA → TW → (ZRes → TW → Prop) → Prop) (Q : Int → TW → Prop) (w : TW) : Prop :=
  ∀ x1_1 : Int, x1_1 = w32 ((tI w 32) - 1) →
  (0 ≤ x1_1 ∧ x1_1 < 8) ∧
  ∀ x2_3 : Int, x2_3 = tA w 33 x1_1 →
  (0 ≤ x2_3 ∧ x2_3 < 1700) ∧
  ((tA w 17 x2_3) = 5 →
    (0 ≤ x1_1 ∧ x1_1 < 8) ∧
    (0 ≤ x2_3 ∧ x2_3 < 1700) ∧
    (0 ≤ (tA w 19 x2_3) ∧ (tA w 19 x2_3) < 24) ∧
    ((tA w 14 (tA w 19 x2_3)) ≤ (tA w 34 x1_1) →
      ((ff_isSign 44 w) = 0 →
        pT_goesOn_85 call Q w) ∧
      (¬ ((ff_isSign 44 w) = 0) →
        call 13 [ai 6, ai (tI w 5)] w (zqV (fun u53 =>
          pT_goesOn_85 call Q u53) zno))) ∧
    (¬ ((tA w 14 (tA w 19 x2_3)) ≤ (tA w 34 x1_1)) →
      ((ff_isSign 44 w) = 0 →
        call 12 [ai 6] w (zqV (fun u59 =>
          pT_goesOn_59 call Q u59) zno)) ∧
      (¬ ((ff_isSign 44 w) = 0) →
        pT_goesOn_59 call Q w))) ∧
  (¬ ((tA w 17 x2_3) = 5) →
    call 37 [] w (zqV (fun u12 =>
      call 17 [ai 124] u12 (zqI (fun v14 u13 =>
        (v14 = 0 →
          ((ff_isSign 41 u13) = 0 →
            pT_goesOn_210 call Q u13) ∧
          (¬ ((ff_isSign 41 u13) = 0) →
            (0 ≤ x1_1 ∧ x1_1 < 8) ∧
            ((tA u13 39 x1_1) = 0 →
              pT_goesOn_148 call Q x1_1 u13) ∧
            (¬ ((tA u13 39 x1_1) = 0) →
              (0 ≤ x1_1 ∧ x1_1 < 8) ∧
              call 13 [ai 8, ai (tA u13 36 x1_1)] u13 (zqV (fun u36 =>
                pT_goesOn_148 call Q x1_1 u36) zno)))) ∧
        (¬ (v14 = 0) →
          (0 ≤ x1_1 ∧ x1_1 < 8) ∧
          ∀ u38 : TW, u38 = sI u13 31 (tA u13 37 x1_1) →
          Q 1 u38)) zno)) zno))
/-! readPattern -/
def pT_readPattern_208 (call : Nat → List ZA → TW → (ZRes → TW → Prop) → Prop) (Q : Int → TW → Prop) (x3 : Int) (w : TW) : Prop :=
  Q x3 w
def pT_readPattern_82 (call : Nat → List ZA → TW → (ZRes → TW → Prop) → Prop) (Q : Int → TW → Prop) (x3 : Int) (w : TW) : Prop :=
  pT_readPattern_208 call Q x3 w
def pT_readPattern_15 (call : Nat → List ZA → TW → (ZRes → TW → Prop) → Prop) (Q : Int → TW → Prop) (x3 : Int) (x4 : Int) (w : TW) : Prop :=
  ∀ I15 : Int → Int → TW → Prop, (∀ (x3 : Int) (x4 : Int) (w : TW), (
    ((tI w 7) = 0 →
      ((tI w 32) ≤ x4 →
        call 34 [ai x3] w (zqV (fun u6 =>
          ((tI u6 7) = 0 →
            ((tI u6 32) = 0 →
              pT_readPattern_82 call Q x3 u6) ∧
            (¬ ((tI u6 32) = 0) →
              call 35 [ai x3] u6 (zqV (fun u9 =>
                call 36 [] u9 (zqI (fun v11 u10 =>
                  (v11 = 0 →
                    ((tI u10 7) = 0 →
                      ∀ u14 : TW, u14 = sI u10 32 (w32 ((tI u10 32) - 1)) →
                      ∀ x4_15 : Int, x4_15 = tI u14 32 →
                      (0 ≤ (tI u14 32) ∧ (tI u14 32) < 8) ∧
                      ∀ x3_17 : Int, x3_17 = tA u14 33 (tI u14 32) →
                      I15 x3_17 x4_15 u14) ∧
                    (¬ ((tI u10 7) = 0) →
                      I15 x3 x4 u10)) ∧
                  (¬ (v11 = 0) →
                    (0 ≤ (w32 ((tI u10 32) - 1)) ∧ (w32 ((tI u10 32) - 1)) < 8) ∧
                    (0 ≤ (tA u10 33 (w32 ((tI u10 32) - 1))) ∧ (tA u10 33 (w32 ((tI u10 32) - 1))) < 1700) ∧
                    (((tA u10 17 (tA u10 33 (w32 ((tI u10 32) - 1)))) = 6 → (0 ≤ (w32 ((tI u10 32) - 1)) ∧ (w32 ((tI u10 32) - 1)) < 8))) ∧
                    ∀ v20 : Int, v20 = (if ((tA u10 17 (tA u10 33 (w32 ((tI u10 32) - 1)))) = 6) ∧ ((tA u10 34 (w32 ((tI u10 32) - 1))) = 6) then 1 else 0) →
                    (fo_wanted u10) ∧
                    ∀ v25 : Int, v25 = (if ((tI u10 32) = 6) ∨ (¬ (v20 = 0)) then 1 else 0) →
                    call 25 [ai (ff_wanted u10), ai v25] u10 (zqI (fun v27 u26 =>
                      I15 v27 x4 u26) zno))) zno)) zno))) ∧
          (¬ ((tI u6 7) = 0) →
            pT_readPattern_208 call Q x3 u6)) zno)) ∧
      (¬ ((tI w 32) ≤ x4) →
        ∀ x4_34 : Int, x4_34 = tI w 32 →
        (fo_wanted w) ∧
        ∀ v38 : Int, v38 = (if (tI w 32) = 6 then 1 else 0) →
        call 25 [ai (ff_wanted w), ai v38] w (zqI (fun v40 u39 =>
          I15 v40 x4_34 u39) zno))) ∧
    (¬ ((tI w 7) = 0) →
      pT_readPattern_208 call Q x3 w)) → I15 x3 x4 w) → I15 x3 x4 w
def pT_readPattern_0 (call : Nat → List ZA → TW → (ZRes → TW → Prop) → Prop) (Q : Int → TW → Prop) (x1 : Int) (x2 : Int) (w : TW) : Prop :=
  ∀ u1 : TW, u1 = sI w 32 0 →
  call 25 [ai x1, ai x2] u1 (zqI (fun v3 u2 =>
    pT_readPattern_15 call Q v3 0 u2) zno)
/-! boundName -/
def pT_boundName_66 (call : Nat → List ZA → TW → (ZRes → TW → Prop) → Prop) (Q : Int → TW → Prop) (x2 : Int) (w : TW) : Prop :=
  Q x2 w
def pT_boundName_24 (call : Nat → List ZA → TW → (ZRes → TW → Prop) → Prop) (Q : Int → TW → Prop) (x2 : Int) (w : TW) : Prop :=
  call 13 [ai 4, ai (tI w 5)] w (zqV (fun u3 =>
    pT_boundName_66 call Q x2 u3) zno)
def pT_boundName_0 (call : Nat → List ZA → TW → (ZRes → TW → Prop) → Prop) (Q : Int → TW → Prop) (x1 : Int) (w : TW) : Prop :=
  call 28 [al (tI w 4)] w (zqI (fun v2 u1 =>
    ((v2 < 0) ∨ ((i_and (i_shr (tI u1 31) v2) 1) = 0) →
      pT_boundName_24 call Q v2 u1) ∧
    (¬ ((v2 < 0) ∨ ((i_and (i_shr (tI u1 31) v2) 1) = 0)) →
      ((¬ (x1 = 0) → (0 ≤ (w32 ((w32 (8 * (tI u1 27))) + v2)) ∧ (w32 ((w32 (8 * (tI u1 27))) + v2)) < 1536))) ∧
      (¬ (x1 = 0) ∧ (¬ ((tA u1 30 (w32 ((w32 (8 * (tI u1 27))) + v2))) = 0)) →
        call 13 [ai 5, ai (tI u1 5)] u1 (zqV (fun u5 =>
          pT_boundName_66 call Q v2 u5) zno)) ∧
      (¬ (¬ (x1 = 0) ∧ (¬ ((tA u1 30 (w32 ((w32 (8 * (tI u1 27))) + v2))) = 0))) →
        pT_boundName_66 call Q v2 u1))) zno)
/-! readTerm -/
def pT_readTerm_82 (call : Nat → List ZA → TW → (ZRes → TW → Prop) → Prop) (Q : TW → Prop) (w : TW) : Prop :=
  Q w
def pT_readTerm_57 (call : Nat → List ZA → TW → (ZRes → TW → Prop) → Prop) (Q : TW → Prop) (x1 : Int) (w : TW) : Prop :=
  (0 ≤ x1 ∧ x1 < 768) ∧
  ∀ u8 : TW, u8 = sA w 50 x1 1 →
  call 31 [] u8 (zqI (fun v11 u10 =>
    (0 ≤ x1 ∧ x1 < 768) ∧
    ∀ u12 : TW, u12 = sA u10 51 x1 v11 →
    pT_readTerm_82 call Q u12) zno)
def pT_readTerm_0 (call : Nat → List ZA → TW → (ZRes → TW → Prop) → Prop) (Q : TW → Prop) (x1 : Int) (w : TW) : Prop :=
  ((tI w 3) = 1 →
    (0 ≤ x1 ∧ x1 < 768) ∧
    ∀ u20 : TW, u20 = sA w 50 x1 2 →
    call 41 [ai 1] u20 (zqI (fun v23 u22 =>
      (0 ≤ x1 ∧ x1 < 768) ∧
      ∀ u24 : TW, u24 = sA u22 51 x1 v23 →
      ((tI u24 7) = 0 →
        call 4 [] u24 (zqV (fun u27 =>
          pT_readTerm_82 call Q u27) zno)) ∧
      (¬ ((tI u24 7) = 0) →
        pT_readTerm_82 call Q u24)) zno)) ∧
  (¬ ((tI w 3) = 1) →
    (((tI w 3) = 3) ∨ (¬ ((ff_isSign 45 w) = 0)) →
      pT_readTerm_57 call Q x1 w) ∧
    (¬ (((tI w 3) = 3) ∨ (¬ ((ff_isSign 45 w) = 0))) →
      call 12 [ai 2] w (zqV (fun u14 =>
        pT_readTerm_82 call Q u14) zno)))
/-! readSum -/
def pT_readSum_95 (call : Nat → List ZA → TW → (ZRes → TW → Prop) → Prop) (Q : TW → Prop) (w : TW) : Prop :=
  Q w
def pT_readSum_73 (call : Nat → List ZA → TW → (ZRes → TW → Prop) → Prop) (Q : TW → Prop) (x1 : Int) (x2 : Int) (w : TW) : Prop :=
  (0 ≤ x2 ∧ x2 < 384) ∧
  ∀ u26 : TW, u26 = sA w 52 x2 (w32 (tI w 4)) →
  call 4 [] u26 (zqV (fun u28 =>
    call 40 [ai (w32 (x1 + 1))] u28 (zqV (fun u29 =>
      pT_readSum_95 call Q u29) zno)) zno)
def pT_readSum_0 (call : Nat → List ZA → TW → (ZRes → TW → Prop) → Prop) (Q : TW → Prop) (x1 : Int) (x2 : Int) (w : TW) : Prop :=
  call 40 [ai x1] w (zqV (fun u1 =>
    (0 ≤ (w32 (x1 + 1)) ∧ (w32 (x1 + 1)) < 768) ∧
    ∀ u2 : TW, u2 = sA u1 50 (w32 (x1 + 1)) 0 →
    (0 ≤ x2 ∧ x2 < 384) ∧
    ∀ u4 : TW, u4 = sA u2 52 x2 0 →
    (((tI u4 7) = 0) ∧ (¬ ((ff_isSign 43 u4) = 0) ∨ (¬ ((ff_isSign 45 u4) = 0) ∨ (¬ ((ff_isSign 42 u4) = 0) ∨ (¬ ((ff_isSign 47 u4) = 0) ∨ (¬ ((ff_isSign 37 u4) = 0)))))) →
      pT_readSum_73 call Q x1 x2 u4) ∧
    (¬ (((tI u4 7) = 0) ∧ (¬ ((ff_isSign 43 u4) = 0) ∨ (¬ ((ff_isSign 45 u4) = 0) ∨ (¬ ((ff_isSign 42 u4) = 0) ∨ (¬ ((ff_isSign 47 u4) = 0) ∨ (¬ ((ff_isSign 37 u4) = 0))))))) →
      pT_readSum_95 call Q u4)) zno)
/-! readGuard -/
def pT_readGuard_25 (call : Nat → List ZA → TW → (ZRes → TW → Prop) → Prop) (Q : TW → Prop) (w : TW) : Prop :=
  Q w
def pT_readGuard_87 (call : Nat → List ZA → TW → (ZRes → TW → Prop) → Prop) (Q : TW → Prop) (w : TW) : Prop :=
  (0 ≤ (tI w 27) ∧ (tI w 27) < 192) ∧
  ∀ u27 : TW, u27 = sA w 53 (tI w 27) (w32 (tI w 4)) →
  call 4 [] u27 (zqV (fun u29 =>
    call 39 [ai (w32 ((w32 (4 * (tI u29 27))) + 2)), ai (w32 ((w32 (2 * (tI u29 27))) + 1))] u29 (zqV (fun u30 =>
      Q u30) zno)) zno)
def pT_readGuard_0 (call : Nat → List ZA → TW → (ZRes → TW → Prop) → Prop) (Q : TW → Prop) (w : TW) : Prop :=
  (0 ≤ (tI w 27) ∧ (tI w 27) < 192) ∧
  ∀ u1 : TW, u1 = sA w 53 (tI w 27) 0 →
  (¬ ((tI u1 7) = 0) ∨ ((ff_isWord 3 u1) = 0) →
    pT_readGuard_25 call Q u1) ∧
  (¬ (¬ ((tI u1 7) = 0) ∨ ((ff_isWord 3 u1) = 0)) →
    call 4 [] u1 (zqV (fun u7 =>
      call 39 [ai (w32 (4 * (tI u7 27))), ai (w32 (2 * (tI u7 27)))] u7 (zqV (fun u8 =>
        ((tI u8 7) = 0 →
          (((ff_isSign 60 u8) = 0) ∧ (((ff_isSign 61 u8) = 0) ∧ ((ff_isSign 62 u8) = 0)) →
            call 12 [ai 2] u8 (zqV (fun u26 =>
              Q u26) zno)) ∧
          (¬ (((ff_isSign 60 u8) = 0) ∧ (((ff_isSign 61 u8) = 0) ∧ ((ff_isSign 62 u8) = 0))) →
            pT_readGuard_87 call Q u8)) ∧
        (¬ ((tI u8 7) = 0) →
          Q u8)) zno)) zno))
/-! readAnswer -/
def pT_readAnswer_319 (call : Nat → List ZA → TW → (ZRes → TW → Prop) → Prop) (Q : TW → Prop) (I202 : Int → TW → Prop) (w : TW) : Prop :=
  call 17 [ai 44] w (zqI (fun v28 u27 =>
    I202 v28 u27) zno)
def pT_readAnswer_295 (call : Nat → List ZA → TW → (ZRes → TW → Prop) → Prop) (Q : TW → Prop) (I202 : Int → TW → Prop) (w : TW) : Prop :=
  (0 ≤ (tI w 27) ∧ (tI w 27) < 192) ∧
  (0 ≤ (tI w 27) ∧ (tI w 27) < 192) ∧
  ∀ u24 : TW, u24 = sA w 58 (tI w 27) (w32 ((tA w 58 (tI w 27)) + 1)) →
  ((tI u24 7) = 0 →
    call 4 [] u24 (zqV (fun u29 =>
      pT_readAnswer_319 call Q I202 u29) zno)) ∧
  (¬ ((tI u24 7) = 0) →
    pT_readAnswer_319 call Q I202 u24)
def pT_readAnswer_221 (call : Nat → List ZA → TW → (ZRes → TW → Prop) → Prop) (Q : TW → Prop) (w : TW) : Prop :=
  call 12 [ai 2] w (zqV (fun u36 =>
    Q u36) zno)
def pT_readAnswer_329 (call : Nat → List ZA → TW → (ZRes → TW → Prop) → Prop) (Q : TW → Prop) (w : TW) : Prop :=
  call 20 [ai 41] w (zqV (fun u37 =>
    Q u37) zno)
def pT_readAnswer_202 (call : Nat → List ZA → TW → (ZRes → TW → Prop) → Prop) (Q : TW → Prop) (x3 : Int) (w : TW) : Prop :=
  ∀ I202 : Int → TW → Prop, (∀ (x3 : Int) (w : TW), (
    (¬ (x3 = 0) ∧ ((tI w 7) = 0) →
      ((tI w 3) = 1 →
        call 41 [ai 0] w (zqI (fun v20 u19 =>
          (0 ≤ (tI u19 27) ∧ (tI u19 27) < 192) ∧
          (3 ≤ (tA u19 58 (tI u19 27)) →
            pT_readAnswer_295 call Q I202 u19) ∧
          (¬ (3 ≤ (tA u19 58 (tI u19 27))) →
            (0 ≤ (tI u19 27) ∧ (tI u19 27) < 192) ∧
            (0 ≤ (w32 ((w32 (3 * (tI u19 27))) + (tA u19 58 (tI u19 27)))) ∧ (w32 ((w32 (3 * (tI u19 27))) + (tA u19 58 (tI u19 27)))) < 576) ∧
            ∀ u31 : TW, u31 = sA u19 59 (w32 ((w32 (3 * (tI u19 27))) + (tA u19 58 (tI u19 27)))) v20 →
            (0 ≤ (tI u31 27) ∧ (tI u31 27) < 192) ∧
            (0 ≤ (w32 ((w32 (3 * (tI u31 27))) + (tA u31 58 (tI u31 27)))) ∧ (w32 ((w32 (3 * (tI u31 27))) + (tA u31 58 (tI u31 27)))) < 576) ∧
            ∀ u34 : TW, u34 = sA u31 60 (w32 ((w32 (3 * (tI u31 27))) + (tA u31 58 (tI u31 27)))) (tI u31 5) →
            pT_readAnswer_295 call Q I202 u34)) zno)) ∧
      (¬ ((tI w 3) = 1) →
        pT_readAnswer_221 call Q w)) ∧
    (¬ (¬ (x3 = 0) ∧ ((tI w 7) = 0)) →
      pT_readAnswer_329 call Q w)) → I202 x3 w) → I202 x3 w
def pT_readAnswer_185 (call : Nat → List ZA → TW → (ZRes → TW → Prop) → Prop) (Q : TW → Prop) (w : TW) : Prop :=
  Q w
def pT_readAnswer_153 (call : Nat → List ZA → TW → (ZRes → TW → Prop) → Prop) (Q : TW → Prop) (x2 : Int) (w : TW) : Prop :=
  call 13 [ai 4, ai x2] w (zqV (fun u47 =>
    pT_readAnswer_185 call Q u47) zno)
def pT_readAnswer_64 (call : Nat → List ZA → TW → (ZRes → TW → Prop) → Prop) (Q : TW → Prop) (w : TW) : Prop :=
  call 31 [] w (zqI (fun v64 u63 =>
    (0 ≤ (tI w 27) ∧ (tI w 27) < 192) ∧
    ∀ u65 : TW, u65 = sA u63 55 (tI w 27) v64 →
    Q u65) zno)
def pT_readAnswer_0 (call : Nat → List ZA → TW → (ZRes → TW → Prop) → Prop) (Q : TW → Prop) (w : TW) : Prop :=
  (0 ≤ (tI w 27) ∧ (tI w 27) < 192) ∧
  ∀ u1 : TW, u1 = sA w 57 (tI w 27) (tI w 5) →
  (0 ≤ (tI u1 27) ∧ (tI u1 27) < 192) ∧
  ∀ u3 : TW, u3 = sA u1 58 (tI u1 27) 0 →
  ((tI u3 3) = 1 →
    (0 ≤ (tI u3 27) ∧ (tI u3 27) < 192) ∧
    ∀ u6 : TW, u6 = sA u3 56 (tI u3 27) (tI u3 4) →
    call 28 [al (tI u6 4)] u6 (zqI (fun v9 u8 =>
      ∀ x2_10 : Int, x2_10 = tI u8 5 →
      call 4 [] u8 (zqV (fun u11 =>
        ((ff_isSign 40 u11) = 0 →
          (0 ≤ (tI u11 27) ∧ (tI u11 27) < 192) ∧
          ∀ u43 : TW, u43 = sA u11 54 (tI u11 27) 1 →
          (0 ≤ (tI u43 27) ∧ (tI u43 27) < 192) ∧
          ∀ u45 : TW, u45 = sA u43 55 (tI u43 27) v9 →
          ((v9 < 0) ∨ ((i_and (i_shr (tI u45 31) v9) 1) = 0) →
            pT_readAnswer_153 call Q x2_10 u45) ∧
          (¬ ((v9 < 0) ∨ ((i_and (i_shr (tI u45 31) v9) 1) = 0)) →
            (0 ≤ (w32 ((w32 (8 * (tI u45 27))) + v9)) ∧ (w32 ((w32 (8 * (tI u45 27))) + v9)) < 1536) ∧
            ((tA u45 30 (w32 ((w32 (8 * (tI u45 27))) + v9))) = 0 →
              pT_readAnswer_185 call Q u45) ∧
            (¬ ((tA u45 30 (w32 ((w32 (8 * (tI u45 27))) + v9))) = 0) →
              call 13 [ai 5, ai x2_10] u45 (zqV (fun u50 =>
                pT_readAnswer_185 call Q u50) zno)))) ∧
        (¬ ((ff_isSign 40 u11) = 0) →
          (0 ≤ (tI u11 27) ∧ (tI u11 27) < 192) ∧
          ∀ u15 : TW, u15 = sA u11 54 (tI u11 27) 2 →
          call 4 [] u15 (zqV (fun u17 =>
            pT_readAnswer_202 call Q 1 u17) zno))) zno)) zno)) ∧
  (¬ ((tI u3 3) = 1) →
    (0 ≤ (tI u3 27) ∧ (tI u3 27) < 192) ∧
    ∀ u56 : TW, u56 = sA u3 54 (tI u3 27) 0 →
    (¬ ((tI u56 3) = 3) ∧ ((ff_isSign 45 u56) = 0) →
      call 12 [ai 2] u56 (zqV (fun u62 =>
        Q u62) zno)) ∧
    (¬ (¬ ((tI u56 3) = 3) ∧ ((ff_isSign 45 u56) = 0)) →
      pT_readAnswer_64 call Q u56))
/-! readRule -/
def pT_readRule_199 (call : Nat → List ZA → TW → (ZRes → TW → Prop) → Prop) (Q : TW → Prop) (I85 : Int → Int → TW → Prop) (x1 : Int) (x2 : Int) (x4 : Int) (x5 : Int) (w : TW) : Prop :=
  (0 ≤ (tI w 27) ∧ (tI w 27) < 192) ∧
  (0 ≤ x5 ∧ x5 < 1700) ∧
  ∀ x6_33 : Int, x6_33 = w32 ((tA w 49 (tI w 27)) * (tA w 26 x5)) →
  ∀ v34 : Int, v34 = (if ¬ (x6_33 ≤ 1000) then 1000 else x6_33) →
  (0 ≤ (tI w 27) ∧ (tI w 27) < 192) ∧
  ∀ u35 : TW, u35 = sA w 49 (tI w 27) v34 →
  ∀ x4_37 : Int, x4_37 = w32 (x4 + 1) →
  I85 x5 x4_37 u35
def pT_readRule_171 (call : Nat → List ZA → TW → (ZRes → TW → Prop) → Prop) (Q : TW → Prop) (w : TW) : Prop :=
  Q w
def pT_readRule_133 (call : Nat → List ZA → TW → (ZRes → TW → Prop) → Prop) (Q : TW → Prop) (I85 : Int → Int → TW → Prop) (x1 : Int) (x2 : Int) (x3 : Int) (x4 : Int) (w : TW) : Prop :=
  (0 ≤ (w32 ((w32 (3 * x1)) + x4)) ∧ (w32 ((w32 (3 * x1)) + x4)) < 36) ∧
  ∀ v24 : Int, v24 = (if ¬ (x2 = 0) ∧ (x4 = 0) then 1 else 0) →
  call 24 [ai (tA w 44 (w32 ((w32 (3 * x1)) + x4))), ai v24] w (zqI (fun v26 u25 =>
    ((tI u25 7) = 0 →
      (x4 = 0 →
        (0 ≤ (tI u25 27) ∧ (tI u25 27) < 192) ∧
        ∀ u40 : TW, u40 = sA u25 47 (tI u25 27) v26 →
        pT_readRule_199 call Q I85 x1 x2 x4 v26 u40) ∧
      (¬ (x4 = 0) →
        (0 ≤ x3 ∧ x3 < 1700) ∧
        ∀ u29 : TW, u29 = sA u25 23 x3 v26 →
        pT_readRule_199 call Q I85 x1 x2 x4 v26 u29)) ∧
    (¬ ((tI u25 7) = 0) →
      pT_readRule_171 call Q u25)) zno)
def pT_readRule_132 (call : Nat → List ZA → TW → (ZRes → TW → Prop) → Prop) (Q : TW → Prop) (w : TW) : Prop :=
  Q w
def pT_readRule_123 (call : Nat → List ZA → TW → (ZRes → TW → Prop) → Prop) (Q : TW → Prop) (I85 : Int → Int → TW → Prop) (x1 : Int) (x2 : Int) (x3 : Int) (x4 : Int) (w : TW) : Prop :=
  call 17 [ai 44] w (zqI (fun v49 u48 =>
    (v49 = 0 →
      pT_readRule_132 call Q u48) ∧
    (¬ (v49 = 0) →
      pT_readRule_133 call Q I85 x1 x2 x3 x4 u48)) zno)
def pT_readRule_299 (call : Nat → List ZA → TW → (ZRes → TW → Prop) → Prop) (Q : TW → Prop) (x1 : Int) (w : TW) : Prop :=
  call 20 [ai 59] w (zqV (fun u60 =>
    (0 ≤ x1 ∧ x1 < 12) ∧
    (0 ≤ x1 ∧ x1 < 12) ∧
    ∀ u62 : TW, u62 = sA u60 45 x1 (w32 ((tA u60 45 x1) + 1)) →
    Q u62) zno)
def pT_readRule_278 (call : Nat → List ZA → TW → (ZRes → TW → Prop) → Prop) (Q : TW → Prop) (x1 : Int) (w : TW) : Prop :=
  call 38 [] w (zqV (fun u57 =>
    call 20 [ai 58] u57 (zqV (fun u58 =>
      ((tI u58 7) = 0 →
        call 42 [] u58 (zqV (fun u64 =>
          pT_readRule_299 call Q x1 u64) zno)) ∧
      (¬ ((tI u58 7) = 0) →
        pT_readRule_299 call Q x1 u58)) zno)) zno)
def pT_readRule_252 (call : Nat → List ZA → TW → (ZRes → TW → Prop) → Prop) (Q : TW → Prop) (x1 : Int) (w : TW) : Prop :=
  (((tI w 7) = 0) ∧ (¬ ((ff_isSign 44 w) = 0)) →
    call 13 [ai 6, ai (tI w 5)] w (zqV (fun u56 =>
      pT_readRule_278 call Q x1 u56) zno)) ∧
  (¬ (((tI w 7) = 0) ∧ (¬ ((ff_isSign 44 w) = 0))) →
    pT_readRule_278 call Q x1 w)
def pT_readRule_85 (call : Nat → List ZA → TW → (ZRes → TW → Prop) → Prop) (Q : TW → Prop) (x1 : Int) (x2 : Int) (x3 : Int) (x4 : Int) (w : TW) : Prop :=
  ∀ I85 : Int → Int → TW → Prop, (∀ (x3 : Int) (x4 : Int) (w : TW), (
    (0 ≤ x1 ∧ x1 < 12) ∧
    (¬ ((tA w 43 x1) ≤ x4) ∧ ((tI w 7) = 0) →
      (x4 ≤ 0 →
        pT_readRule_133 call Q I85 x1 x2 x3 x4 w) ∧
      (¬ (x4 ≤ 0) →
        ((ff_isSign 44 w) = 0 →
          call 12 [ai 6] w (zqV (fun u51 =>
            pT_readRule_123 call Q I85 x1 x2 x3 x4 u51) zno)) ∧
        (¬ ((ff_isSign 44 w) = 0) →
          pT_readRule_123 call Q I85 x1 x2 x3 x4 w))) ∧
    (¬ (¬ ((tA w 43 x1) ≤ x4) ∧ ((tI w 7) = 0)) →
      pT_readRule_252 call Q x1 w)) → I85 x3 x4 w) → I85 x3 x4 w
def pT_readRule_0 (call : Nat → List ZA → TW → (ZRes → TW → Prop) → Prop) (Q : TW → Prop) (x1 : Int) (w : TW) : Prop :=
  (0 ≤ x1 ∧ x1 < 12) ∧
  ∀ v2 : Int, v2 = (if (tA w 45 x1) = 16 then 1 else 0) →
  ((v2 = 0 → (0 ≤ x1 ∧ x1 < 12))) ∧
  ∀ v3 : Int, v3 = (if ¬ (v2 = 0) then 15 else tA w 45 x1) →
  ∀ u5 : TW, u5 = sI w 27 (w32 ((w32 (16 * x1)) + v3)) →
  (0 ≤ (tI u5 27) ∧ (tI u5 27) < 192) ∧
  ∀ u6 : TW, u6 = sA u5 48 (tI u5 27) (tI u5 5) →
  (0 ≤ (tI u6 27) ∧ (tI u6 27) < 192) ∧
  ∀ u8 : TW, u8 = sA u6 28 (tI u6 27) 0 →
  ∀ u10 : TW, u10 = sI u8 31 0 →
  (0 ≤ (tI u10 27) ∧ (tI u10 27) < 192) ∧
  ∀ u11 : TW, u11 = sA u10 49 (tI u10 27) 1 →
  pT_readRule_85 call Q x1 v2 (-4) 0 u11
/-! readFunction -/
def pT_readFunction_187 (call : Nat → List ZA → TW → (ZRes → TW → Prop) → Prop) (Q : TW → Prop) (I123 : Int → TW → Prop) (x1 : Int) (w : TW) : Prop :=
  call 17 [ai 44] w (zqI (fun v24 u23 =>
    I123 v24 u23) zno)
def pT_readFunction_233 (call : Nat → List ZA → TW → (ZRes → TW → Prop) → Prop) (Q : TW → Prop) (w : TW) : Prop :=
  call 20 [ai 125] w (zqV (fun u40 =>
    Q u40) zno)
def pT_readFunction_209 (call : Nat → List ZA → TW → (ZRes → TW → Prop) → Prop) (Q : TW → Prop) (x1 : Int) (w : TW) : Prop :=
  ∀ I209 : TW → Prop, (∀ (w : TW), (
    (((tI w 7) = 0) ∧ ((ff_isSign 125 w) = 0) →
      call 23 [ai x1] w (zqV (fun u39 =>
        I209 u39) zno)) ∧
    (¬ (((tI w 7) = 0) ∧ ((ff_isSign 125 w) = 0)) →
      pT_readFunction_233 call Q w)) → I209 w) → I209 w
def pT_readFunction_197 (call : Nat → List ZA → TW → (ZRes → TW → Prop) → Prop) (Q : TW → Prop) (x1 : Int) (w : TW) : Prop :=
  call 20 [ai 41] w (zqV (fun u33 =>
    call 20 [ai 123] u33 (zqV (fun u34 =>
      pT_readFunction_209 call Q x1 u34) zno)) zno)
def pT_readFunction_123 (call : Nat → List ZA → TW → (ZRes → TW → Prop) → Prop) (Q : TW → Prop) (x1 : Int) (x2 : Int) (w : TW) : Prop :=
  ∀ I123 : Int → TW → Prop, (∀ (x2 : Int) (w : TW), (
    (¬ (x2 = 0) ∧ ((tI w 7) = 0) →
      (0 ≤ x1 ∧ x1 < 12) ∧
      ∀ v19 : Int, v19 = (if (tA w 43 x1) = 3 then 1 else 0) →
      call 19 [ai v19] w (zqI (fun v21 u20 =>
        ((tI u20 7) = 0 →
          (0 ≤ x1 ∧ x1 < 12) ∧
          (0 ≤ (w32 ((w32 (3 * x1)) + (tA u20 43 x1))) ∧ (w32 ((w32 (3 * x1)) + (tA u20 43 x1))) < 36) ∧
          ∀ u26 : TW, u26 = sA u20 44 (w32 ((w32 (3 * x1)) + (tA u20 43 x1))) v21 →
          (0 ≤ x1 ∧ x1 < 12) ∧
          (0 ≤ x1 ∧ x1 < 12) ∧
          ∀ u29 : TW, u29 = sA u26 43 x1 (w32 ((tA u26 43 x1) + 1)) →
          pT_readFunction_187 call Q I123 x1 u29) ∧
        (¬ ((tI u20 7) = 0) →
          pT_readFunction_187 call Q I123 x1 u20)) zno)) ∧
    (¬ (¬ (x2 = 0) ∧ ((tI w 7) = 0)) →
      pT_readFunction_197 call Q x1 w)) → I123 x2 w) → I123 x2 w
def pT_readFunction_64 (call : Nat → List ZA → TW → (ZRes → TW → Prop) → Prop) (Q : TW → Prop) (w : TW) : Prop :=
  ((tI w 7) = 0 →
    ∀ x1_8 : Int, x1_8 = tI w 41 →
    ∀ u9 : TW, u9 = sI w 41 (w32 ((tI w 41) + 1)) →
    (0 ≤ x1_8 ∧ x1_8 < 12) ∧
    ∀ u10 : TW, u10 = sA u9 42 x1_8 (tI u9 4) →
    (0 ≤ x1_8 ∧ x1_8 < 12) ∧
    ∀ u12 : TW, u12 = sA u10 43 x1_8 0 →
    (0 ≤ x1_8 ∧ x1_8 < 12) ∧
    ∀ u14 : TW, u14 = sA u12 45 x1_8 0 →
    call 4 [] u14 (zqV (fun u16 =>
      call 20 [ai 40] u16 (zqV (fun u17 =>
        pT_readFunction_123 call Q x1_8 1 u17) zno)) zno)) ∧
  (¬ ((tI w 7) = 0) →
    Q w)
def pT_readFunction_0 (call : Nat → List ZA → TW → (ZRes → TW → Prop) → Prop) (Q : TW → Prop) (w : TW) : Prop :=
  call 4 [] w (zqV (fun u1 =>
    ((tI u1 3) = 1 →
      call 22 [al (tI u1 4)] u1 (zqI (fun v4 u3 =>
        (v4 = (-4) →
          ((tI u3 41) = 12 →
            call 13 [ai 9, ai (tI u3 5)] u3 (zqV (fun u51 =>
              pT_readFunction_64 call Q u51) zno)) ∧
          (¬ ((tI u3 41) = 12) →
            pT_readFunction_64 call Q u3)) ∧
        (¬ (v4 = (-4)) →
          call 13 [ai 3, ai (tI u3 5)] u3 (zqV (fun u52 =>
            pT_readFunction_64 call Q u52) zno))) zno)) ∧
    (¬ ((tI u1 3) = 1) →
      call 12 [ai 2] u1 (zqV (fun u53 =>
        pT_readFunction_64 call Q u53) zno))) zno)
/-! judgeAnswer -/
def pT_judgeAnswer_177 (call : Nat → List ZA → TW → (ZRes → TW → Prop) → Prop) (Q : TW → Prop) (I65 : Int → TW → Prop) (x1 : Int) (x2 : Int) (x3 : Int) (w : TW) : Prop :=
  ∀ x3_18 : Int, x3_18 = w32 (x3 + 1) →
  I65 x3_18 w
def pT_judgeAnswer_155 (call : Nat → List ZA → TW → (ZRes → TW → Prop) → Prop) (Q : TW → Prop) (I65 : Int → TW → Prop) (x1 : Int) (x2 : Int) (x3 : Int) (s0 : Int) (w : TW) : Prop :=
  (s0 = 0 →
    (0 ≤ (w32 ((w32 (3 * x1)) + x3)) ∧ (w32 ((w32 (3 * x1)) + x3)) < 576) ∧
    call 13 [ai 5, ai (tA w 60 (w32 ((w32 (3 * x1)) + x3)))] w (zqV (fun u20 =>
      pT_judgeAnswer_177 call Q I65 x1 x2 x3 u20) zno)) ∧
  (¬ (s0 = 0) →
    pT_judgeAnswer_177 call Q I65 x1 x2 x3 w)
def pT_judgeAnswer_150 (call : Nat → List ZA → TW → (ZRes → TW → Prop) → Prop) (Q : TW → Prop) (I65 : Int → TW → Prop) (x1 : Int) (x2 : Int) (x3 : Int) (w : TW) : Prop :=
  pT_judgeAnswer_155 call Q I65 x1 x2 x3 1 w
def pT_judgeAnswer_154 (call : Nat → List ZA → TW → (ZRes → TW → Prop) → Prop) (Q : TW → Prop) (I65 : Int → TW → Prop) (x1 : Int) (x2 : Int) (x3 : Int) (w : TW) : Prop :=
  pT_judgeAnswer_155 call Q I65 x1 x2 x3 0 w
def pT_judgeAnswer_183 (call : Nat → List ZA → TW → (ZRes → TW → Prop) → Prop) (Q : TW → Prop) (w : TW) : Prop :=
  Q w
def pT_judgeAnswer_65 (call : Nat → List ZA → TW → (ZRes → TW → Prop) → Prop) (Q : TW → Prop) (x1 : Int) (x2 : Int) (x3 : Int) (w : TW) : Prop :=
  ∀ I65 : Int → TW → Prop, (∀ (x3 : Int) (w : TW), (
    (0 ≤ x2 ∧ x2 < 12) ∧
    (¬ ((tA w 43 x2) ≤ x3) ∧ ((tI w 7) = 0) →
      (0 ≤ (w32 ((w32 (3 * x1)) + x3)) ∧ (w32 ((w32 (3 * x1)) + x3)) < 576) ∧
      (0 ≤ (w32 ((w32 (8 * x1)) + (tA w 59 (w32 ((w32 (3 * x1)) + x3))))) ∧ (w32 ((w32 (8 * x1)) + (tA w 59 (w32 ((w32 (3 * x1)) + x3))))) < 1536) ∧
      ∀ x4_13 : Int, x4_13 = tA w 30 (w32 ((w32 (8 * x1)) + (tA w 59 (w32 ((w32 (3 * x1)) + x3))))) →
      (0 ≤ (w32 ((w32 (3 * x2)) + x3)) ∧ (w32 ((w32 (3 * x2)) + x3)) < 36) ∧
      ∀ x5_15 : Int, x5_15 = tA w 44 (w32 ((w32 (3 * x2)) + x3)) →
      (x4_13 = x5_15 →
        pT_judgeAnswer_150 call Q I65 x1 x2 x3 w) ∧
      (¬ (x4_13 = x5_15) →
        (¬ (x4_13 < 3) ∧ (¬ (x5_15 < 3)) →
          call 26 [ai (w32 (x4_13 - 3)), ai (w32 (x5_15 - 3))] w (zqI (fun v22 u21 =>
            (v22 = 0 →
              pT_judgeAnswer_154 call Q I65 x1 x2 x3 u21) ∧
            (¬ (v22 = 0) →
              pT_judgeAnswer_150 call Q I65 x1 x2 x3 u21)) zno)) ∧
        (¬ (¬ (x4_13 < 3) ∧ (¬ (x5_15 < 3))) →
          pT_judgeAnswer_154 call Q I65 x1 x2 x3 w))) ∧
    (¬ (¬ ((tA w 43 x2) ≤ x3) ∧ ((tI w 7) = 0)) →
      pT_judgeAnswer_183 call Q w)) → I65 x3 w) → I65 x3 w
def pT_judgeAnswer_63 (call : Nat → List ZA → TW → (ZRes → TW → Prop) → Prop) (Q : TW → Prop) (x1 : Int) (x2 : Int) (w : TW) : Prop :=
  pT_judgeAnswer_65 call Q x1 x2 0 w
def pT_judgeAnswer_0 (call : Nat → List ZA → TW → (ZRes → TW → Prop) → Prop) (Q : TW → Prop) (x1 : Int) (w : TW) : Prop :=
  (0 ≤ x1 ∧ x1 < 192) ∧
  call 22 [al (tA w 56 x1)] w (zqI (fun v3 u2 =>
    (v3 = (-4) →
      (0 ≤ x1 ∧ x1 < 192) ∧
      call 13 [ai 4, ai (tA u2 57 x1)] u2 (zqV (fun u37 =>
        Q u37) zno)) ∧
    (¬ (v3 = (-4)) →
      (0 ≤ x1 ∧ x1 < 192) ∧
      ∀ u5 : TW, u5 = sA u2 55 x1 v3 →
      (0 ≤ x1 ∧ x1 < 192) ∧
      (0 ≤ v3 ∧ v3 < 12) ∧
      ((tA u5 58 x1) = (tA u5 43 v3) →
        pT_judgeAnswer_63 call Q x1 v3 u5) ∧
      (¬ ((tA u5 58 x1) = (tA u5 43 v3)) →
        (0 ≤ x1 ∧ x1 < 192) ∧
        call 13 [ai 6, ai (tA u5 57 x1)] u5 (zqV (fun u35 =>
          pT_judgeAnswer_63 call Q x1 v3 u35) zno)))) zno)
/-! judge -/
def pT_judge_162 (call : Nat → List ZA → TW → (ZRes → TW → Prop) → Prop) (Q : TW → Prop) (w : TW) : Prop :=
  Q w
def pT_judge_150 (call : Nat → List ZA → TW → (ZRes → TW → Prop) → Prop) (Q : TW → Prop) (I68 : Int → TW → Prop) (I85 : Int → TW → Prop) (x1 : Int) (x2 : Int) (w : TW) : Prop :=
  ∀ x2_12 : Int, x2_12 = w32 (x2 + 1) →
  I85 x2_12 w
def pT_judge_156 (call : Nat → List ZA → TW → (ZRes → TW → Prop) → Prop) (Q : TW → Prop) (I68 : Int → TW → Prop) (x1 : Int) (w : TW) : Prop :=
  ∀ x1_15 : Int, x1_15 = w32 (x1 + 1) →
  I68 x1_15 w
def pT_judge_85 (call : Nat → List ZA → TW → (ZRes → TW → Prop) → Prop) (Q : TW → Prop) (I68 : Int → TW → Prop) (x1 : Int) (x2 : Int) (w : TW) : Prop :=
  ∀ I85 : Int → TW → Prop, (∀ (x2 : Int) (w : TW), (
    (0 ≤ x1 ∧ x1 < 12) ∧
    (¬ ((tA w 45 x1) ≤ x2) ∧ ((tI w 7) = 0) →
      (0 ≤ x1 ∧ x1 < 12) ∧
      (0 ≤ (w32 ((w32 (16 * x1)) + x2)) ∧ (w32 ((w32 (16 * x1)) + x2)) < 192) ∧
      (0 ≤ x1 ∧ x1 < 12) ∧
      ∀ u8 : TW, u8 = sA w 46 x1 (w32 ((tA w 46 x1) + (tA w 49 (w32 ((w32 (16 * x1)) + x2))))) →
      (0 ≤ x1 ∧ x1 < 12) ∧
      ((tA u8 46 x1) ≤ 40 →
        pT_judge_150 call Q I68 I85 x1 x2 u8) ∧
      (¬ ((tA u8 46 x1) ≤ 40) →
        (0 ≤ (w32 ((w32 (16 * x1)) + x2)) ∧ (w32 ((w32 (16 * x1)) + x2)) < 192) ∧
        call 13 [ai 9, ai (tA u8 48 (w32 ((w32 (16 * x1)) + x2)))] u8 (zqV (fun u14 =>
          pT_judge_150 call Q I68 I85 x1 x2 u14) zno))) ∧
    (¬ (¬ ((tA w 45 x1) ≤ x2) ∧ ((tI w 7) = 0)) →
      pT_judge_156 call Q I68 x1 w)) → I85 x2 w) → I85 x2 w
def pT_judge_68 (call : Nat → List ZA → TW → (ZRes → TW → Prop) → Prop) (Q : TW → Prop) (x1 : Int) (w : TW) : Prop :=
  ∀ I68 : Int → TW → Prop, (∀ (x1 : Int) (w : TW), (
    ((tI w 41) ≤ x1 →
      pT_judge_162 call Q w) ∧
    (¬ ((tI w 41) ≤ x1) →
      (0 ≤ x1 ∧ x1 < 12) ∧
      ∀ u3 : TW, u3 = sA w 46 x1 0 →
      pT_judge_85 call Q I68 x1 0 u3)) → I68 x1 w) → I68 x1 w
def pT_judge_66 (call : Nat → List ZA → TW → (ZRes → TW → Prop) → Prop) (Q : TW → Prop) (w : TW) : Prop :=
  pT_judge_68 call Q 0 w
def pT_judge_54 (call : Nat → List ZA → TW → (ZRes → TW → Prop) → Prop) (Q : TW → Prop) (I2 : Int → TW → Prop) (I12 : Int → TW → Prop) (x1 : Int) (x2 : Int) (w : TW) : Prop :=
  ∀ x2_24 : Int, x2_24 = w32 (x2 + 1) →
  I12 x2_24 w
def pT_judge_60 (call : Nat → List ZA → TW → (ZRes → TW → Prop) → Prop) (Q : TW → Prop) (I2 : Int → TW → Prop) (x1 : Int) (w : TW) : Prop :=
  ∀ x1_26 : Int, x1_26 = w32 (x1 + 1) →
  I2 x1_26 w
def pT_judge_12 (call : Nat → List ZA → TW → (ZRes → TW → Prop) → Prop) (Q : TW → Prop) (I2 : Int → TW → Prop) (x1 : Int) (x2 : Int) (w : TW) : Prop :=
  ∀ I12 : Int → TW → Prop, (∀ (x2 : Int) (w : TW), (
    (0 ≤ x1 ∧ x1 < 12) ∧
    (¬ ((tA w 45 x1) ≤ x2) ∧ ((tI w 7) = 0) →
      (0 ≤ (w32 ((w32 (16 * x1)) + x2)) ∧ (w32 ((w32 (16 * x1)) + x2)) < 192) ∧
      ((tA w 54 (w32 ((w32 (16 * x1)) + x2))) = 2 →
        call 44 [ai (w32 ((w32 (16 * x1)) + x2))] w (zqV (fun u25 =>
          pT_judge_54 call Q I2 I12 x1 x2 u25) zno)) ∧
      (¬ ((tA w 54 (w32 ((w32 (16 * x1)) + x2))) = 2) →
        pT_judge_54 call Q I2 I12 x1 x2 w)) ∧
    (¬ (¬ ((tA w 45 x1) ≤ x2) ∧ ((tI w 7) = 0)) →
      pT_judge_60 call Q I2 x1 w)) → I12 x2 w) → I12 x2 w
def pT_judge_2 (call : Nat → List ZA → TW → (ZRes → TW → Prop) → Prop) (Q : TW → Prop) (x1 : Int) (w : TW) : Prop :=
  ∀ I2 : Int → TW → Prop, (∀ (x1 : Int) (w : TW), (
    ((tI w 41) ≤ x1 →
      pT_judge_66 call Q w) ∧
    (¬ ((tI w 41) ≤ x1) →
      pT_judge_12 call Q I2 x1 0 w)) → I2 x1 w) → I2 x1 w
def pT_judge_0 (call : Nat → List ZA → TW → (ZRes → TW → Prop) → Prop) (Q : TW → Prop) (w : TW) : Prop :=
  pT_judge_2 call Q 0 w
/-! wait0 -/
def pT_wait0_0 (call : Nat → List ZA → TW → (ZRes → TW → Prop) → Prop) (Q : TW → Prop) (x1 : Int) (x2 : Int) (x3 : Int) (x4 : Int) (w : TW) : Prop :=
  (0 ≤ (tI w 71) ∧ (tI w 71) < 2000) ∧
  ∀ u1 : TW, u1 = sA w 72 (tI w 71) x1 →
  (0 ≤ (tI u1 71) ∧ (tI u1 71) < 2000) ∧
  ∀ u3 : TW, u3 = sA u1 73 (tI u1 71) x2 →
  (0 ≤ (tI u3 71) ∧ (tI u3 71) < 2000) ∧
  ∀ u5 : TW, u5 = sA u3 74 (tI u3 71) x3 →
  (0 ≤ (tI u5 71) ∧ (tI u5 71) < 2000) ∧
  ∀ u7 : TW, u7 = sA u5 75 (tI u5 71) x4 →
  ∀ u9 : TW, u9 = sI u7 71 (w32 ((tI u7 71) + 1)) →
  Q u9
/-! waitAll -/
def pT_waitAll_143 (call : Nat → List ZA → TW → (ZRes → TW → Prop) → Prop) (Q : TW → Prop) (w : TW) : Prop :=
  Q w
def pT_waitAll_46 (call : Nat → List ZA → TW → (ZRes → TW → Prop) → Prop) (Q : TW → Prop) (x3 : Int) (x4 : Int) (x6 : Int) (x7 : Int) (w : TW) : Prop :=
  ∀ I46 : Int → Int → TW → Prop, (∀ (x6 : Int) (x7 : Int) (w : TW), (
    (x7 < 0 →
      pT_waitAll_143 call Q w) ∧
    (¬ (x7 < 0) →
      (0 ≤ x7 ∧ x7 < 1700) ∧
      ∀ x8_5 : Int, x8_5 = tA w 76 x7 →
      ((¬ (x4 < 0) → (x3 = 0 → (0 ≤ x7 ∧ x7 < 3)) ∧ (¬ (x3 = 0) → (0 ≤ (w32 ((w32 (4 * x4)) + x7)) ∧ (w32 ((w32 (4 * x4)) + x7)) < 640)))) ∧
      ∀ v6 : Int, v6 = (if x4 < 0 then (-4) else (if x3 = 0 then tA w 117 x7 else tA w 114 (w32 ((w32 (4 * x4)) + x7)))) →
      (0 ≤ x8_5 ∧ x8_5 < 1700) ∧
      (¬ (tA w 26 x8_5) = 0) ∧
      call 49 [ai x8_5, ai (i_rem x6 (tA w 26 x8_5)), ai (w32 ((w32 ((w32 (8 * x3)) + x7)) + 1)), ai v6] w (zqV (fun u10 =>
        (0 ≤ x8_5 ∧ x8_5 < 1700) ∧
        (¬ (tA u10 26 x8_5) = 0) ∧
        ∀ x6_13 : Int, x6_13 = i_div x6 (tA u10 26 x8_5) →
        ∀ x7_14 : Int, x7_14 = w32 (x7 + (-1)) →
        I46 x6_13 x7_14 u10) zno))) → I46 x6 x7 w) → I46 x6 x7 w
def pT_waitAll_37 (call : Nat → List ZA → TW → (ZRes → TW → Prop) → Prop) (Q : TW → Prop) (x2 : Int) (x3 : Int) (x4 : Int) (x5 : Int) (w : TW) : Prop :=
  ∀ x7_2 : Int, x7_2 = w32 (x5 - 1) →
  pT_waitAll_46 call Q x3 x4 x2 x7_2 w
def pT_waitAll_6 (call : Nat → List ZA → TW → (ZRes → TW → Prop) → Prop) (Q : TW → Prop) (x2 : Int) (x3 : Int) (x4 : Int) (x5 : Int) (x6 : Int) (w : TW) : Prop :=
  ∀ I6 : Int → Int → TW → Prop, (∀ (x5 : Int) (x6 : Int) (w : TW), (
    (x6 = (-4) →
      pT_waitAll_37 call Q x2 x3 x4 x5 w) ∧
    (¬ (x6 = (-4)) →
      (0 ≤ x5 ∧ x5 < 1700) ∧
      ∀ u18 : TW, u18 = sA w 76 x5 x6 →
      ∀ x5_20 : Int, x5_20 = w32 (x5 + 1) →
      (0 ≤ x6 ∧ x6 < 1700) ∧
      ∀ x6_22 : Int, x6_22 = tA u18 23 x6 →
      I6 x5_20 x6_22 u18)) → I6 x5 x6 w) → I6 x5 x6 w
def pT_waitAll_0 (call : Nat → List ZA → TW → (ZRes → TW → Prop) → Prop) (Q : TW → Prop) (x1 : Int) (x2 : Int) (x3 : Int) (x4 : Int) (w : TW) : Prop :=
  pT_waitAll_6 call Q x2 x3 x4 0 x1 w
/-! notes -/
def pT_notes_54 (call : Nat → List ZA → TW → (ZRes → TW → Prop) → Prop) (Q : TW → Prop) (w : TW) : Prop :=
  Q w
def pT_notes_27 (call : Nat → List ZA → TW → (ZRes → TW → Prop) → Prop) (Q : TW → Prop) (x1 : Int) (x2 : Int) (w : TW) : Prop :=
  ((¬ (x2 < 0) → (0 ≤ x1 ∧ x1 < 1700))) ∧
  (¬ (x2 < 0) ∧ (¬ ((tA w 25 x1) = (-4))) →
    (0 ≤ x1 ∧ x1 < 1700) ∧
    (0 ≤ (tA w 25 x1) ∧ (tA w 25 x1) < 8) ∧
    ∀ u7 : TW, u7 = sA w 118 (tA w 25 x1) x2 →
    pT_notes_54 call Q u7) ∧
  (¬ (¬ (x2 < 0) ∧ (¬ ((tA w 25 x1) = (-4)))) →
    pT_notes_54 call Q w)
def pT_notes_0 (call : Nat → List ZA → TW → (ZRes → TW → Prop) → Prop) (Q : TW → Prop) (x1 : Int) (x2 : Int) (w : TW) : Prop :=
  ((¬ (x2 < 0) → (0 ≤ x1 ∧ x1 < 1700))) ∧
  (¬ (x2 < 0) ∧ (¬ ((tA w 24 x1) = (-4))) →
    (0 ≤ x1 ∧ x1 < 1700) ∧
    (0 ≤ (tA w 24 x1) ∧ (tA w 24 x1) < 8) ∧
    ∀ u3 : TW, u3 = sA w 118 (tA w 24 x1) x2 →
    pT_notes_27 call Q x1 x2 u3) ∧
  (¬ (¬ (x2 < 0) ∧ (¬ ((tA w 24 x1) = (-4)))) →
    pT_notes_27 call Q x1 x2 w)
/-! nextPattern -/
def pT_nextPattern_96 (call : Nat → List ZA → TW → (ZRes → TW → Prop) → Prop) (Q : Int → TW → Prop) (x1 : Int) (x2 : Int) (w : TW) : Prop :=
  (0 ≤ (tI w 71) ∧ (tI w 71) < 2000) ∧
  ∀ u8 : TW, u8 = sA w 73 (tI w 71) x2 →
  Q x1 u8
def pT_nextPattern_91 (call : Nat → List ZA → TW → (ZRes → TW → Prop) → Prop) (Q : Int → TW → Prop) (I30 : Int → Int → TW → Prop) (x2 : Int) (x3 : Int) (w : TW) : Prop :=
  I30 x3 x2 w
def pT_nextPattern_62 (call : Nat → List ZA → TW → (ZRes → TW → Prop) → Prop) (Q : Int → TW → Prop) (I30 : Int → Int → TW → Prop) (x2 : Int) (x3 : Int) (w : TW) : Prop :=
  ∀ I62 : Int → Int → TW → Prop, (∀ (x2 : Int) (x3 : Int) (w : TW), (
    (0 ≤ x3 ∧ x3 < 1700) ∧
    (x2 < (tA w 26 x3) →
      pT_nextPattern_91 call Q I30 x2 x3 w) ∧
    (¬ (x2 < (tA w 26 x3)) →
      (0 ≤ x3 ∧ x3 < 1700) ∧
      ∀ x2_17 : Int, x2_17 = w32 (x2 - (tA w 26 x3)) →
      (0 ≤ x3 ∧ x3 < 1700) ∧
      ∀ x3_19 : Int, x3_19 = tA w 23 x3 →
      I62 x2_17 x3_19 w)) → I62 x2 x3 w) → I62 x2 x3 w
def pT_nextPattern_30 (call : Nat → List ZA → TW → (ZRes → TW → Prop) → Prop) (Q : Int → TW → Prop) (x1 : Int) (x2 : Int) (w : TW) : Prop :=
  ∀ I30 : Int → Int → TW → Prop, (∀ (x1 : Int) (x2 : Int) (w : TW), (
    (0 ≤ x1 ∧ x1 < 1700) ∧
    ((tA w 17 x1) = 6 →
      (0 ≤ (tI w 71) ∧ (tI w 71) < 2000) ∧
      call 51 [ai x1, ai (tA w 75 (tI w 71))] w (zqV (fun u11 =>
        (0 ≤ x1 ∧ x1 < 1700) ∧
        ∀ x3_13 : Int, x3_13 = tA u11 22 x1 →
        pT_nextPattern_62 call Q I30 x2 x3_13 u11) zno)) ∧
    (¬ ((tA w 17 x1) = 6) →
      pT_nextPattern_96 call Q x1 x2 w)) → I30 x1 x2 w) → I30 x1 x2 w
def pT_nextPattern_0 (call : Nat → List ZA → TW → (ZRes → TW → Prop) → Prop) (Q : Int → TW → Prop) (w : TW) : Prop :=
  ∀ u1 : TW, u1 = sI w 71 (w32 ((tI w 71) - 1)) →
  (0 ≤ (tI u1 71) ∧ (tI u1 71) < 2000) ∧
  ∀ x1_3 : Int, x1_3 = tA u1 72 (tI u1 71) →
  (0 ≤ (tI u1 71) ∧ (tI u1 71) < 2000) ∧
  ∀ x2_5 : Int, x2_5 = tA u1 73 (tI u1 71) →
  pT_nextPattern_30 call Q x1_3 x2_5 u1
/-! layRow -/
def pT_layRow_177 (call : Nat → List ZA → TW → (ZRes → TW → Prop) → Prop) (Q : TW → Prop) (w : TW) : Prop :=
  ∀ u11 : TW, u11 = sI w 61 (w32 ((tI w 61) + 1)) →
  (0 ≤ (tI u11 61) ∧ (tI u11 61) < 41) ∧
  ∀ u12 : TW, u12 = sA u11 64 (tI u11 61) (tI u11 65) →
  Q u12
def pT_layRow_174 (call : Nat → List ZA → TW → (ZRes → TW → Prop) → Prop) (Q : TW → Prop) (I52 : TW → Prop) (w : TW) : Prop :=
  I52 w
def pT_layRow_130 (call : Nat → List ZA → TW → (ZRes → TW → Prop) → Prop) (Q : TW → Prop) (I52 : TW → Prop) (x3 : Int) (x4 : Int) (w : TW) : Prop :=
  (0 ≤ x3 ∧ x3 < 1700) ∧
  (((tA w 17 x3) = 5 → (0 ≤ x3 ∧ x3 < 1700))) ∧
  (((tA w 17 x3) = 5) ∧ (¬ ((tA w 22 x3) = (-4))) →
    (0 ≤ x3 ∧ x3 < 1700) ∧
    (0 ≤ (tI w 71) ∧ (tI w 71) < 2000) ∧
    call 48 [ai (tA w 22 x3), ai (tA w 73 (tI w 71)), ai x4, ai (-4)] w (zqV (fun u24 =>
      pT_layRow_174 call Q I52 u24) zno)) ∧
  (¬ (((tA w 17 x3) = 5) ∧ (¬ ((tA w 22 x3) = (-4)))) →
    pT_layRow_174 call Q I52 w)
def pT_layRow_52 (call : Nat → List ZA → TW → (ZRes → TW → Prop) → Prop) (Q : TW → Prop) (w : TW) : Prop :=
  ∀ I52 : TW → Prop, (∀ (w : TW), (
    ((tI w 71) ≤ 0 →
      pT_layRow_177 call Q w) ∧
    (¬ ((tI w 71) ≤ 0) →
      call 50 [] w (zqI (fun v15 u14 =>
        (0 ≤ (tI u14 71) ∧ (tI u14 71) < 2000) ∧
        ∀ x4_17 : Int, x4_17 = tA u14 74 (tI u14 71) →
        (0 ≤ v15 ∧ v15 < 1700) ∧
        ((tA u14 17 v15) = 0 →
          pT_layRow_130 call Q I52 v15 x4_17 u14) ∧
        (¬ ((tA u14 17 v15) = 0) →
          (0 ≤ v15 ∧ v15 < 1700) ∧
          (0 ≤ (tI u14 65) ∧ (tI u14 65) < 33000) ∧
          ∀ u31 : TW, u31 = sA u14 66 (tI u14 65) (tA u14 17 v15) →
          (0 ≤ (tI u31 65) ∧ (tI u31 65) < 33000) ∧
          ∀ u33 : TW, u33 = sA u31 67 (tI u31 65) x4_17 →
          (0 ≤ (tI u33 65) ∧ (tI u33 65) < 33000) ∧
          ∀ u35 : TW, u35 = sA u33 68 (tI u33 65) v15 →
          ∀ u37 : TW, u37 = sI u35 65 (w32 ((tI u35 65) + 1)) →
          pT_layRow_130 call Q I52 v15 x4_17 u37)) zno))) → I52 w) → I52 w
def pT_layRow_0 (call : Nat → List ZA → TW → (ZRes → TW → Prop) → Prop) (Q : TW → Prop) (x1 : Int) (x2 : Int) (w : TW) : Prop :=
  (0 ≤ (tI w 61) ∧ (tI w 61) < 40) ∧
  ∀ u1 : TW, u1 = sA w 62 (tI w 61) x1 →
  (0 ≤ (tI u1 61) ∧ (tI u1 61) < 40) ∧
  ∀ u3 : TW, u3 = sA u1 63 (tI u1 61) x2 →
  (0 ≤ (tI u3 61) ∧ (tI u3 61) < 41) ∧
  ∀ u5 : TW, u5 = sA u3 64 (tI u3 61) (tI u3 65) →
  ∀ u7 : TW, u7 = sI u5 71 0 →
  (0 ≤ x1 ∧ x1 < 192) ∧
  call 48 [ai (tA u7 47 x1), ai x2, ai 0, ai (-4)] u7 (zqV (fun u9 =>
    pT_layRow_52 call Q u9) zno)
/-! layRows -/
def pT_layRows_86 (call : Nat → List ZA → TW → (ZRes → TW → Prop) → Prop) (Q : TW → Prop) (w : TW) : Prop :=
  Q w
def pT_layRows_66 (call : Nat → List ZA → TW → (ZRes → TW → Prop) → Prop) (Q : TW → Prop) (I19 : Int → TW → Prop) (I40 : Int → TW → Prop) (x1 : Int) (x2 : Int) (x3 : Int) (x4 : Int) (x5 : Int) (w : TW) : Prop :=
  call 47 [ai x4, ai x5] w (zqV (fun u9 =>
    ∀ x5_10 : Int, x5_10 = w32 (x5 + 1) →
    I40 x5_10 u9) zno)
def pT_layRows_80 (call : Nat → List ZA → TW → (ZRes → TW → Prop) → Prop) (Q : TW → Prop) (I19 : Int → TW → Prop) (x1 : Int) (x2 : Int) (x3 : Int) (w : TW) : Prop :=
  ∀ x3_11 : Int, x3_11 = w32 (x3 + 1) →
  I19 x3_11 w
def pT_layRows_40 (call : Nat → List ZA → TW → (ZRes → TW → Prop) → Prop) (Q : TW → Prop) (I19 : Int → TW → Prop) (x1 : Int) (x2 : Int) (x3 : Int) (x4 : Int) (x5 : Int) (w : TW) : Prop :=
  ∀ I40 : Int → TW → Prop, (∀ (x5 : Int) (w : TW), (
    (0 ≤ x4 ∧ x4 < 192) ∧
    ((¬ ((tA w 49 x4) ≤ x5) → (¬ (x2 = 0) → (0 ≤ x4 ∧ x4 < 192)))) ∧
    (¬ ((tA w 49 x4) ≤ x5) ∧ ((x2 = 0) ∨ ((tA w 53 x4) = 0)) →
      pT_layRows_66 call Q I19 I40 x1 x2 x3 x4 x5 w) ∧
    (¬ (¬ ((tA w 49 x4) ≤ x5) ∧ ((x2 = 0) ∨ ((tA w 53 x4) = 0))) →
      pT_layRows_80 call Q I19 x1 x2 x3 w)) → I40 x5 w) → I40 x5 w
def pT_layRows_19 (call : Nat → List ZA → TW → (ZRes → TW → Prop) → Prop) (Q : TW → Prop) (x1 : Int) (x2 : Int) (x3 : Int) (w : TW) : Prop :=
  ∀ I19 : Int → TW → Prop, (∀ (x3 : Int) (w : TW), (
    (0 ≤ x1 ∧ x1 < 12) ∧
    ((tA w 45 x1) ≤ x3 →
      pT_layRows_86 call Q w) ∧
    (¬ ((tA w 45 x1) ≤ x3) →
      ∀ x4_6 : Int, x4_6 = w32 ((w32 (16 * x1)) + x3) →
      pT_layRows_40 call Q I19 x1 x2 x3 x4_6 0 w)) → I19 x3 w) → I19 x3 w
def pT_layRows_0 (call : Nat → List ZA → TW → (ZRes → TW → Prop) → Prop) (Q : TW → Prop) (x1 : Int) (x2 : Int) (w : TW) : Prop :=
  ∀ u1 : TW, u1 = sI w 61 0 →
  ∀ u2 : TW, u2 = sI u1 65 0 →
  ∀ u3 : TW, u3 = sA u2 64 0 0 →
  pT_layRows_19 call Q x1 x2 0 u3
/-! layKnown -/
def pT_layKnown_117 (call : Nat → List ZA → TW → (ZRes → TW → Prop) → Prop) (Q : TW → Prop) (w : TW) : Prop :=
  Q w
def pT_layKnown_107 (call : Nat → List ZA → TW → (ZRes → TW → Prop) → Prop) (Q : TW → Prop) (I29 : Int → TW → Prop) (x2 : Int) (w : TW) : Prop :=
  (0 ≤ x2 ∧ x2 < 3900) ∧
  ∀ x2_16 : Int, x2_16 = tA w 85 x2 →
  I29 x2_16 w
def pT_layKnown_29 (call : Nat → List ZA → TW → (ZRes → TW → Prop) → Prop) (Q : TW → Prop) (x2 : Int) (w : TW) : Prop :=
  ∀ I29 : Int → TW → Prop, (∀ (x2 : Int) (w : TW), (
    (0 ≤ x2 ∧ x2 < 3900) ∧
    ((tA w 85 x2) = (-4) →
      pT_layKnown_117 call Q w) ∧
    (¬ ((tA w 85 x2) = (-4)) →
      (0 ≤ x2 ∧ x2 < 3900) ∧
      ∀ x3_6 : Int, x3_6 = tA w 85 x2 →
      (0 ≤ x3_6 ∧ x3_6 < 3900) ∧
      ((tA w 80 x3_6) = 2 →
        (0 ≤ x3_6 ∧ x3_6 < 3900) ∧
        (0 ≤ (tA w 81 x3_6) ∧ (tA w 81 x3_6) < 192) ∧
        ∀ u18 : TW, u18 = sA w 108 (tA w 81 x3_6) (zb 1) →
        pT_layKnown_107 call Q I29 x2 u18) ∧
      (¬ ((tA w 80 x3_6) = 2) →
        (0 ≤ x3_6 ∧ x3_6 < 3900) ∧
        (0 ≤ (tI w 105) ∧ (tI w 105) < 300) ∧
        ∀ u10 : TW, u10 = sA w 106 (tI w 105) (tA w 83 x3_6) →
        (0 ≤ (tI u10 105) ∧ (tI u10 105) < 300) ∧
        ∀ u12 : TW, u12 = sA u10 107 (tI u10 105) x2 →
        ∀ u14 : TW, u14 = sI u12 105 (w32 ((tI u12 105) + 1)) →
        pT_layKnown_107 call Q I29 x2 u14))) → I29 x2 w) → I29 x2 w
def pT_layKnown_27 (call : Nat → List ZA → TW → (ZRes → TW → Prop) → Prop) (Q : TW → Prop) (x1 : Int) (w : TW) : Prop :=
  pT_layKnown_29 call Q x1 w
def pT_layKnown_7 (call : Nat → List ZA → TW → (ZRes → TW → Prop) → Prop) (Q : TW → Prop) (x1 : Int) (x2 : Int) (w : TW) : Prop :=
  ∀ I7 : Int → TW → Prop, (∀ (x2 : Int) (w : TW), (
    (192 ≤ x2 →
      pT_layKnown_27 call Q x1 w) ∧
    (¬ (192 ≤ x2) →
      (0 ≤ x2 ∧ x2 < 192) ∧
      ∀ u20 : TW, u20 = sA w 108 x2 (zb 0) →
      ∀ x2_22 : Int, x2_22 = w32 (x2 + 1) →
      I7 x2_22 u20)) → I7 x2 w) → I7 x2 w
def pT_layKnown_0 (call : Nat → List ZA → TW → (ZRes → TW → Prop) → Prop) (Q : TW → Prop) (x1 : Int) (w : TW) : Prop :=
  ∀ u1 : TW, u1 = sI w 105 0 →
  pT_layKnown_7 call Q x1 0 u1
/-! stands -/
def pT_stands_254 (call : Nat → List ZA → TW → (ZRes → TW → Prop) → Prop) (Q : Int → TW → Prop) (x4 : Int) (w : TW) : Prop :=
  ∀ v8 : Int, v8 = (if ¬ (x4 = 0) then 1 else 2) →
  Q v8 w
def pT_stands_252 (call : Nat → List ZA → TW → (ZRes → TW → Prop) → Prop) (Q : Int → TW → Prop) (s0 : Int) (w : TW) : Prop :=
  pT_stands_254 call Q s0 w
def pT_stands_251 (call : Nat → List ZA → TW → (ZRes → TW → Prop) → Prop) (Q : Int → TW → Prop) (w : TW) : Prop :=
  pT_stands_252 call Q 0 w
def pT_stands_45 (call : Nat → List ZA → TW → (ZRes → TW → Prop) → Prop) (Q : Int → TW → Prop) (x1 : Int) (x2 : Int) (w : TW) : Prop :=
  (x2 = (-4) →
    Q 0 w) ∧
  (¬ (x2 = (-4)) →
    (0 ≤ x1 ∧ x1 < 33000) ∧
    ∀ x3_4 : Int, x3_4 = tA w 68 x1 →
    (0 ≤ x1 ∧ x1 < 33000) ∧
    ((tA w 66 x1) = 1 →
      (0 ≤ x2 ∧ x2 < 3900) ∧
      (0 ≤ x3_4 ∧ x3_4 < 1700) ∧
      ((¬ ((tA w 89 x2) < (tA w 19 x3_4)) → (0 ≤ x2 ∧ x2 < 3900) ∧ (0 ≤ x3_4 ∧ x3_4 < 1700))) ∧
      ∀ v18 : Int, v18 = (if ¬ ((tA w 89 x2) < (tA w 19 x3_4)) ∧ (¬ ((tA w 20 x3_4) < (tA w 90 x2))) then 1 else 0) →
      pT_stands_254 call Q v18 w) ∧
    ((tA w 66 x1) = 2 →
      (0 ≤ x2 ∧ x2 < 3900) ∧
      (0 ≤ x3_4 ∧ x3_4 < 1700) ∧
      ∀ v26 : Int, v26 = (if (tA w 89 x2) = (tA w 19 x3_4) then 1 else 0) →
      pT_stands_254 call Q v26 w) ∧
    ((tA w 66 x1) = 3 →
      (0 ≤ x2 ∧ x2 < 3900) ∧
      (((tA w 92 x2) = 0 → (0 ≤ x2 ∧ x2 < 3900) ∧ (0 ≤ x3_4 ∧ x3_4 < 1700))) ∧
      ∀ v31 : Int, v31 = (if ((tA w 92 x2) = 0) ∧ ((tA w 91 x2) = (tA w 21 x3_4)) then 1 else 0) →
      pT_stands_254 call Q v31 w) ∧
    ((tA w 66 x1) = 4 →
      (0 ≤ x2 ∧ x2 < 3900) ∧
      ∀ v38 : Int, v38 = (if (tA w 89 x2) = (-4) then 1 else 0) →
      pT_stands_254 call Q v38 w) ∧
    (¬ (tA w 66 x1) = 1 → ¬ (tA w 66 x1) = 2 → ¬ (tA w 66 x1) = 3 → ¬ (tA w 66 x1) = 4 → 
      (0 ≤ x2 ∧ x2 < 3900) ∧
      ((tA w 89 x2) = (-4) →
        pT_stands_251 call Q w) ∧
      (¬ ((tA w 89 x2) = (-4)) →
        (0 ≤ x2 ∧ x2 < 3900) ∧
        (0 ≤ x3_4 ∧ x3_4 < 1700) ∧
        call 26 [ai (tA w 89 x2), ai (tA w 19 x3_4)] w (zqI (fun v14 u13 =>
          (v14 = 0 →
            pT_stands_251 call Q u13) ∧
          (¬ (v14 = 0) →
            pT_stands_252 call Q 1 u13)) zno))))
def pT_stands_5 (call : Nat → List ZA → TW → (ZRes → TW → Prop) → Prop) (Q : Int → TW → Prop) (x1 : Int) (x2 : Int) (x3 : Int) (w : TW) : Prop :=
  ∀ I5 : Int → Int → TW → Prop, (∀ (x2 : Int) (x3 : Int) (w : TW), (
    ((tI w 105) ≤ x3 →
      pT_stands_45 call Q x1 x2 w) ∧
    (¬ ((tI w 105) ≤ x3) →
      (0 ≤ x3 ∧ x3 < 300) ∧
      (0 ≤ x1 ∧ x1 < 33000) ∧
      (((tA w 106 x3) = (tA w 67 x1) → (0 ≤ x3 ∧ x3 < 300))) ∧
      ∀ v44 : Int, v44 = (if (tA w 106 x3) = (tA w 67 x1) then tA w 107 x3 else x2) →
      ∀ x3_46 : Int, x3_46 = w32 (x3 + 1) →
      I5 v44 x3_46 w)) → I5 x2 x3 w) → I5 x2 x3 w
def pT_stands_0 (call : Nat → List ZA → TW → (ZRes → TW → Prop) → Prop) (Q : Int → TW → Prop) (x1 : Int) (w : TW) : Prop :=
  pT_stands_5 call Q x1 (-4) 0 w
/-! sift -/
def pT_sift_140 (call : Nat → List ZA → TW → (ZRes → TW → Prop) → Prop) (Q : Int → TW → Prop) (x1 : Int) (w : TW) : Prop :=
  Q x1 w
def pT_sift_113 (call : Nat → List ZA → TW → (ZRes → TW → Prop) → Prop) (Q : Int → TW → Prop) (I5 : Int → Int → TW → Prop) (x1 : Int) (x2 : Int) (w : TW) : Prop :=
  ((x1 = (-4) → (0 ≤ x2 ∧ x2 < 40))) ∧
  ∀ v24 : Int, v24 = (if (x1 = (-4)) ∧ (¬ ((tA w 70 x2) = 0)) then x2 else x1) →
  ∀ x2_26 : Int, x2_26 = w32 (x2 + 1) →
  I5 v24 x2_26 w
def pT_sift_45 (call : Nat → List ZA → TW → (ZRes → TW → Prop) → Prop) (Q : Int → TW → Prop) (I5 : Int → Int → TW → Prop) (x1 : Int) (x2 : Int) (x3 : Int) (w : TW) : Prop :=
  ∀ I45 : Int → TW → Prop, (∀ (x3 : Int) (w : TW), (
    (0 ≤ (w32 (x2 + 1)) ∧ (w32 (x2 + 1)) < 41) ∧
    ((¬ ((tA w 64 (w32 (x2 + 1))) ≤ x3) → (0 ≤ x2 ∧ x2 < 40))) ∧
    (¬ ((tA w 64 (w32 (x2 + 1))) ≤ x3) ∧ (¬ ((tA w 70 x2) = 0)) →
      call 55 [ai x3] w (zqI (fun v12 u11 =>
        ∀ v13 : Int, v13 = (if v12 = 1 then 1 else 0) →
        (0 ≤ x3 ∧ x3 < 33000) ∧
        ∀ u14 : TW, u14 = sA u11 69 x3 (zb v13) →
        ∀ v16 : Int, v16 = (if ¬ (v12 = 2) then 1 else 0) →
        (0 ≤ x2 ∧ x2 < 40) ∧
        ∀ u17 : TW, u17 = sA u14 70 x2 (zb v16) →
        ∀ x3_19 : Int, x3_19 = w32 (x3 + 1) →
        I45 x3_19 u17) zno)) ∧
    (¬ (¬ ((tA w 64 (w32 (x2 + 1))) ≤ x3) ∧ (¬ ((tA w 70 x2) = 0))) →
      pT_sift_113 call Q I5 x1 x2 w)) → I45 x3 w) → I45 x3 w
def pT_sift_5 (call : Nat → List ZA → TW → (ZRes → TW → Prop) → Prop) (Q : Int → TW → Prop) (x1 : Int) (x2 : Int) (w : TW) : Prop :=
  ∀ I5 : Int → Int → TW → Prop, (∀ (x1 : Int) (x2 : Int) (w : TW), (
    ((tI w 61) ≤ x2 →
      pT_sift_140 call Q x1 w) ∧
    (¬ ((tI w 61) ≤ x2) →
      (0 ≤ x2 ∧ x2 < 40) ∧
      (0 ≤ (tA w 62 x2) ∧ (tA w 62 x2) < 192) ∧
      ∀ v4 : Int, v4 = (if (tA w 108 (tA w 62 x2)) = 0 then 1 else 0) →
      (0 ≤ x2 ∧ x2 < 40) ∧
      ∀ u5 : TW, u5 = sA w 70 x2 (zb v4) →
      (0 ≤ x2 ∧ x2 < 41) ∧
      ∀ x3_8 : Int, x3_8 = tA u5 64 x2 →
      pT_sift_45 call Q I5 x1 x2 x3_8 u5)) → I5 x1 x2 w) → I5 x1 x2 w
def pT_sift_0 (call : Nat → List ZA → TW → (ZRes → TW → Prop) → Prop) (Q : Int → TW → Prop) (w : TW) : Prop :=
  pT_sift_5 call Q (-4) 0 w
/-! isLeft -/
def pT_isLeft_60 (call : Nat → List ZA → TW → (ZRes → TW → Prop) → Prop) (Q : Int → TW → Prop) (x3 : Int) (w : TW) : Prop :=
  (x3 = 0 ∨ x3 = 1) ∧
  Q x3 w
def pT_isLeft_10 (call : Nat → List ZA → TW → (ZRes → TW → Prop) → Prop) (Q : Int → TW → Prop) (x1 : Int) (x2 : Int) (x3 : Int) (x4 : Int) (w : TW) : Prop :=
  ∀ I10 : Int → Int → TW → Prop, (∀ (x3 : Int) (x4 : Int) (w : TW), (
    (0 ≤ (w32 (x1 + 1)) ∧ (w32 (x1 + 1)) < 41) ∧
    ((tA w 64 (w32 (x1 + 1))) ≤ x4 →
      pT_isLeft_60 call Q x3 w) ∧
    (¬ ((tA w 64 (w32 (x1 + 1))) ≤ x4) →
      ((x3 = 0 → (0 ≤ x4 ∧ x4 < 33000) ∧ ((tA w 69 x4) = 0 → (0 ≤ x4 ∧ x4 < 33000)))) ∧
      ∀ v5 : Int, v5 = (if ¬ (x3 = 0) ∨ (((tA w 69 x4) = 0) ∧ ((tA w 67 x4) = x2)) then 1 else 0) →
      ∀ x4_7 : Int, x4_7 = w32 (x4 + 1) →
      I10 v5 x4_7 w)) → I10 x3 x4 w) → I10 x3 x4 w
def pT_isLeft_0 (call : Nat → List ZA → TW → (ZRes → TW → Prop) → Prop) (Q : Int → TW → Prop) (x1 : Int) (x2 : Int) (w : TW) : Prop :=
  (0 ≤ x1 ∧ x1 < 41) ∧
  ∀ x4_2 : Int, x4_2 = tA w 64 x1 →
  pT_isLeft_10 call Q x1 x2 0 x4_2 w
/-! oneBranch -/
def pT_oneBranch_0 (call : Nat → List ZA → TW → (ZRes → TW → Prop) → Prop) (Q : TW → Prop) (x1 : Int) (x2 : Int) (x3 : Int) (x5 : Int) (w : TW) : Prop :=
  (0 ≤ (tI w 99) ∧ (tI w 99) < 100) ∧
  ∀ u1 : TW, u1 = sA w 100 (tI w 99) x1 →
  (0 ≤ (tI u1 99) ∧ (tI u1 99) < 100) ∧
  ∀ u3 : TW, u3 = sA u1 101 (tI u1 99) x2 →
  (0 ≤ (tI u3 99) ∧ (tI u3 99) < 100) ∧
  ∀ u5 : TW, u5 = sA u3 102 (tI u3 99) x3 →
  (0 ≤ (tI u5 99) ∧ (tI u5 99) < 100) ∧
  ∀ u7 : TW, u7 = sA u5 103 (tI u5 99) (zb x5) →
  ∀ u9 : TW, u9 = sI u7 99 (w32 ((tI u7 99) + 1)) →
  Q u9
/-! cut -/
def pT_cut_102 (call : Nat → List ZA → TW → (ZRes → TW → Prop) → Prop) (Q : TW → Prop) (x1 : Int) (x3 : Int) (w : TW) : Prop :=
  (0 ≤ x3 ∧ x3 < 100) ∧
  ∀ u10 : TW, u10 = sA w 104 x3 x1 →
  ∀ u12 : TW, u12 = sI u10 99 (w32 ((tI u10 99) + 1)) →
  Q u12
def pT_cut_65 (call : Nat → List ZA → TW → (ZRes → TW → Prop) → Prop) (Q : TW → Prop) (x1 : Int) (x3 : Int) (w : TW) : Prop :=
  ∀ I65 : Int → TW → Prop, (∀ (x3 : Int) (w : TW), (
    ((¬ (x3 ≤ 0) → (0 ≤ (w32 (x3 - 1)) ∧ (w32 (x3 - 1)) < 100))) ∧
    (¬ (x3 ≤ 0) ∧ (¬ ((tA w 104 (w32 (x3 - 1))) ≤ x1)) →
      (0 ≤ (w32 (x3 - 1)) ∧ (w32 (x3 - 1)) < 100) ∧
      (0 ≤ x3 ∧ x3 < 100) ∧
      ∀ u7 : TW, u7 = sA w 104 x3 (tA w 104 (w32 (x3 - 1))) →
      ∀ x3_9 : Int, x3_9 = w32 (x3 + (-1)) →
      I65 x3_9 u7) ∧
    (¬ (¬ (x3 ≤ 0) ∧ (¬ ((tA w 104 (w32 (x3 - 1))) ≤ x1))) →
      pT_cut_102 call Q x1 x3 w)) → I65 x3 w) → I65 x3 w
def pT_cut_59 (call : Nat → List ZA → TW → (ZRes → TW → Prop) → Prop) (Q : TW → Prop) (x1 : Int) (x3 : Int) (x4 : Int) (w : TW) : Prop :=
  (x4 = 0 →
    Q w) ∧
  (¬ (x4 = 0) →
    pT_cut_65 call Q x1 x3 w)
def pT_cut_23 (call : Nat → List ZA → TW → (ZRes → TW → Prop) → Prop) (Q : TW → Prop) (x1 : Int) (x3 : Int) (x4 : Int) (x5 : Int) (w : TW) : Prop :=
  ∀ I23 : Int → Int → TW → Prop, (∀ (x4 : Int) (x5 : Int) (w : TW), (
    (x3 ≤ x5 →
      pT_cut_59 call Q x1 x3 x4 w) ∧
    (¬ (x3 ≤ x5) →
      ((¬ (x4 = 0) → (0 ≤ x5 ∧ x5 < 100))) ∧
      ∀ v18 : Int, v18 = (if ¬ (x4 = 0) ∧ (¬ ((tA w 104 x5) = x1)) then 1 else 0) →
      ∀ x5_20 : Int, x5_20 = w32 (x5 + 1) →
      I23 v18 x5_20 w)) → I23 x4 x5 w) → I23 x4 x5 w
def pT_cut_0 (call : Nat → List ZA → TW → (ZRes → TW → Prop) → Prop) (Q : TW → Prop) (x1 : Int) (w : TW) : Prop :=
  ∀ x3_1 : Int, x3_1 = tI w 99 →
  ∀ v2 : Int, v2 = (if ¬ (x1 ≤ (-2147483648)) then 1 else 0) →
  pT_cut_23 call Q x1 x3_1 v2 0 w
/-! wants -/
def pT_wants_54 (call : Nat → List ZA → TW → (ZRes → TW → Prop) → Prop) (Q : TW → Prop) (w : TW) : Prop :=
  Q w
def pT_wants_42 (call : Nat → List ZA → TW → (ZRes → TW → Prop) → Prop) (Q : TW → Prop) (x1 : Int) (x3 : Int) (w : TW) : Prop :=
  (x3 = 0 →
    call 59 [ai 0, ai 0, al x1, ai 0] w (zqV (fun u3 =>
      pT_wants_54 call Q u3) zno)) ∧
  (¬ (x3 = 0) →
    pT_wants_54 call Q w)
def pT_wants_5 (call : Nat → List ZA → TW → (ZRes → TW → Prop) → Prop) (Q : TW → Prop) (x1 : Int) (x3 : Int) (x4 : Int) (w : TW) : Prop :=
  ∀ I5 : Int → Int → TW → Prop, (∀ (x3 : Int) (x4 : Int) (w : TW), (
    ((tI w 99) ≤ x4 →
      pT_wants_42 call Q x1 x3 w) ∧
    (¬ ((tI w 99) ≤ x4) →
      ((x3 = 0 → (0 ≤ x4 ∧ x4 < 100))) ∧
      ∀ v4 : Int, v4 = (if ¬ (x3 = 0) ∨ ((tA w 102 x4) = x1) then 1 else 0) →
      ∀ x4_6 : Int, x4_6 = w32 (x4 + 1) →
      I5 v4 x4_6 w)) → I5 x3 x4 w) → I5 x3 x4 w
def pT_wants_0 (call : Nat → List ZA → TW → (ZRes → TW → Prop) → Prop) (Q : TW → Prop) (x1 : Int) (w : TW) : Prop :=
  pT_wants_5 call Q x1 0 0 w
/-! parts -/
def pT_parts_66 (call : Nat → List ZA → TW → (ZRes → TW → Prop) → Prop) (Q : TW → Prop) (w : TW) : Prop :=
  Q w
def pT_parts_17 (call : Nat → List ZA → TW → (ZRes → TW → Prop) → Prop) (Q : TW → Prop) (x1 : Int) (x2 : Int) (x4 : Int) (w : TW) : Prop :=
  ∀ I17 : Int → Int → TW → Prop, (∀ (x2 : Int) (x4 : Int) (w : TW), (
    (x1 < x4 →
      pT_parts_66 call Q w) ∧
    (¬ (x1 < x4) →
      ((¬ (x1 ≤ x4) → (0 ≤ x4 ∧ x4 < 100))) ∧
      ∀ v4 : Int, v4 = (if ¬ (x1 ≤ x4) then tA w 104 x4 else 2147483648) →
      call 59 [ai (w32 x2), ai (w32 (w64 (v4 - 1))), al 0, ai 0] w (zqV (fun u6 =>
        ∀ x4_7 : Int, x4_7 = w32 (x4 + 1) →
        I17 v4 x4_7 u6) zno))) → I17 x2 x4 w) → I17 x2 x4 w
def pT_parts_0 (call : Nat → List ZA → TW → (ZRes → TW → Prop) → Prop) (Q : TW → Prop) (w : TW) : Prop :=
  ∀ x1_1 : Int, x1_1 = tI w 99 →
  ∀ u2 : TW, u2 = sI w 99 0 →
  pT_parts_17 call Q x1_1 (-2147483648) 0 u2
/-! layBranches -/
def pT_layBranches_235 (call : Nat → List ZA → TW → (ZRes → TW → Prop) → Prop) (Q : TW → Prop) (w : TW) : Prop :=
  Q w
def pT_layBranches_215 (call : Nat → List ZA → TW → (ZRes → TW → Prop) → Prop) (Q : TW → Prop) (x2 : Int) (w : TW) : Prop :=
  (x2 = 2 →
    call 59 [ai 0, ai 0, al 0, ai 1] w (zqV (fun u7 =>
      pT_layBranches_235 call Q u7) zno)) ∧
  (¬ (x2 = 2) →
    call 62 [] w (zqV (fun u6 =>
      pT_layBranches_235 call Q u6) zno))
def pT_layBranches_203 (call : Nat → List ZA → TW → (ZRes → TW → Prop) → Prop) (Q : TW → Prop) (I91 : Int → TW → Prop) (I107 : Int → TW → Prop) (x1 : Int) (x2 : Int) (x3 : Int) (x4 : Int) (w : TW) : Prop :=
  ∀ x4_19 : Int, x4_19 = w32 (x4 + 1) →
  I107 x4_19 w
def pT_layBranches_209 (call : Nat → List ZA → TW → (ZRes → TW → Prop) → Prop) (Q : TW → Prop) (I91 : Int → TW → Prop) (x1 : Int) (x2 : Int) (x3 : Int) (w : TW) : Prop :=
  ∀ x3_29 : Int, x3_29 = w32 (x3 + 1) →
  I91 x3_29 w
def pT_layBranches_107 (call : Nat → List ZA → TW → (ZRes → TW → Prop) → Prop) (Q : TW → Prop) (I91 : Int → TW → Prop) (x1 : Int) (x2 : Int) (x3 : Int) (x4 : Int) (w : TW) : Prop :=
  ∀ I107 : Int → TW → Prop, (∀ (x4 : Int) (w : TW), (
    (0 ≤ (w32 (x3 + 1)) ∧ (w32 (x3 + 1)) < 41) ∧
    ((¬ ((tA w 64 (w32 (x3 + 1))) ≤ x4) → (0 ≤ x3 ∧ x3 < 40))) ∧
    (¬ ((tA w 64 (w32 (x3 + 1))) ≤ x4) ∧ (¬ ((tA w 70 x3) = 0)) →
      (0 ≤ x4 ∧ x4 < 33000) ∧
      (((tA w 67 x4) = x1 → (0 ≤ x4 ∧ x4 < 33000))) ∧
      (((tA w 67 x4) = x1) ∧ ((tA w 69 x4) = 0) →
        (0 ≤ x4 ∧ x4 < 33000) ∧
        ∀ x5_15 : Int, x5_15 = tA w 68 x4 →
        (x2 = 0 →
          (0 ≤ x5_15 ∧ x5_15 < 1700) ∧
          call 60 [al (tA w 19 x5_15)] w (zqV (fun u21 =>
            (0 ≤ x5_15 ∧ x5_15 < 1700) ∧
            call 60 [al (w64 ((tA u21 20 x5_15) + 1))] u21 (zqV (fun u23 =>
              pT_layBranches_203 call Q I91 I107 x1 x2 x3 x4 u23) zno)) zno)) ∧
        (¬ (x2 = 0) →
          (0 ≤ x5_15 ∧ x5_15 < 1700) ∧
          call 61 [al (tA w 21 x5_15)] w (zqV (fun u18 =>
            pT_layBranches_203 call Q I91 I107 x1 x2 x3 x4 u18) zno))) ∧
      (¬ (((tA w 67 x4) = x1) ∧ ((tA w 69 x4) = 0)) →
        pT_layBranches_203 call Q I91 I107 x1 x2 x3 x4 w)) ∧
    (¬ (¬ ((tA w 64 (w32 (x3 + 1))) ≤ x4) ∧ (¬ ((tA w 70 x3) = 0))) →
      pT_layBranches_209 call Q I91 x1 x2 x3 w)) → I107 x4 w) → I107 x4 w
def pT_layBranches_91 (call : Nat → List ZA → TW → (ZRes → TW → Prop) → Prop) (Q : TW → Prop) (x1 : Int) (x2 : Int) (x3 : Int) (w : TW) : Prop :=
  ∀ I91 : Int → TW → Prop, (∀ (x3 : Int) (w : TW), (
    ((tI w 61) ≤ x3 →
      pT_layBranches_215 call Q x2 w) ∧
    (¬ ((tI w 61) ≤ x3) →
      (0 ≤ x3 ∧ x3 < 41) ∧
      ∀ x4_9 : Int, x4_9 = tA w 64 x3 →
      pT_layBranches_107 call Q I91 x1 x2 x3 x4_9 w)) → I91 x3 w) → I91 x3 w
def pT_layBranches_62 (call : Nat → List ZA → TW → (ZRes → TW → Prop) → Prop) (Q : TW → Prop) (w : TW) : Prop :=
  pT_layBranches_235 call Q w
def pT_layBranches_56 (call : Nat → List ZA → TW → (ZRes → TW → Prop) → Prop) (Q : TW → Prop) (I21 : Int → TW → Prop) (x2 : Int) (x3 : Int) (w : TW) : Prop :=
  ∀ x3_42 : Int, x3_42 = w32 (x3 + 1) →
  I21 x3_42 w
def pT_layBranches_21 (call : Nat → List ZA → TW → (ZRes → TW → Prop) → Prop) (Q : TW → Prop) (x2 : Int) (x3 : Int) (w : TW) : Prop :=
  ∀ I21 : Int → TW → Prop, (∀ (x3 : Int) (w : TW), (
    ((tI w 10) ≤ x3 →
      pT_layBranches_62 call Q w) ∧
    (¬ ((tI w 10) ≤ x3) →
      call 16 [ai x3] w (zqI (fun v40 u39 =>
        (v40 = 0 →
          call 26 [ai x3, ai (w32 (x2 - 3))] u39 (zqI (fun v44 u43 =>
            (v44 = 0 →
              pT_layBranches_56 call Q I21 x2 x3 u43) ∧
            (¬ (v44 = 0) →
              call 59 [ai x3, ai 0, al 0, ai 0] u43 (zqV (fun u46 =>
                pT_layBranches_56 call Q I21 x2 x3 u46) zno))) zno)) ∧
        (¬ (v40 = 0) →
          pT_layBranches_56 call Q I21 x2 x3 u39)) zno))) → I21 x3 w) → I21 x3 w
def pT_layBranches_0 (call : Nat → List ZA → TW → (ZRes → TW → Prop) → Prop) (Q : TW → Prop) (x1 : Int) (x2 : Int) (w : TW) : Prop :=
  ∀ u1 : TW, u1 = sI w 99 0 →
  (x2 < 3 →
    (x2 = 1 →
      call 59 [ai 0, ai 0, al 0, ai 0] u1 (zqV (fun u35 =>
        call 59 [ai 1, ai 0, al 0, ai 0] u35 (zqV (fun u36 =>
          pT_layBranches_235 call Q u36) zno)) zno)) ∧
    (¬ (x2 = 1) →
      pT_layBranches_91 call Q x1 x2 0 u1)) ∧
  (¬ (x2 < 3) →
    call 59 [ai (-4), ai 0, al 0, ai 0] u1 (zqV (fun u37 =>
      pT_layBranches_21 call Q x2 0 u37) zno))
/-! asksAt -/
def pT_asksAt_294 (call : Nat → List ZA → TW → (ZRes → TW → Prop) → Prop) (Q : Int → TW → Prop) (x3 : Int) (w : TW) : Prop :=
  Q x3 w
def pT_asksAt_288 (call : Nat → List ZA → TW → (ZRes → TW → Prop) → Prop) (Q : Int → TW → Prop) (I14 : Int → Int → Int → TW → Prop) (x1 : Int) (x2 : Int) (x3 : Int) (x4 : Int) (x5 : Int) (w : TW) : Prop :=
  ∀ x5_27 : Int, x5_27 = w32 (x5 + 1) →
  I14 x3 x4 x5_27 w
def pT_asksAt_281 (call : Nat → List ZA → TW → (ZRes → TW → Prop) → Prop) (Q : Int → TW → Prop) (I14 : Int → Int → Int → TW → Prop) (x1 : Int) (x2 : Int) (x5 : Int) (x7 : Int) (w : TW) : Prop :=
  pT_asksAt_288 call Q I14 x1 x2 x5 x7 x5 w
def pT_asksAt_259 (call : Nat → List ZA → TW → (ZRes → TW → Prop) → Prop) (Q : Int → TW → Prop) (I14 : Int → Int → Int → TW → Prop) (x1 : Int) (x2 : Int) (x3 : Int) (x4 : Int) (x5 : Int) (x7 : Int) (w : TW) : Prop :=
  ((x3 = (-4)) ∨ ((x2 = 3) ∨ (¬ (x2 ≤ 0) ∧ (¬ (x7 ≤ x4)))) →
    pT_asksAt_281 call Q I14 x1 x2 x5 x7 w) ∧
  (¬ ((x3 = (-4)) ∨ ((x2 = 3) ∨ (¬ (x2 ≤ 0) ∧ (¬ (x7 ≤ x4))))) →
    pT_asksAt_288 call Q I14 x1 x2 x3 x4 x5 w)
def pT_asksAt_221 (call : Nat → List ZA → TW → (ZRes → TW → Prop) → Prop) (Q : Int → TW → Prop) (I14 : Int → Int → Int → TW → Prop) (x1 : Int) (x2 : Int) (x3 : Int) (x4 : Int) (x5 : Int) (x7 : Int) (w : TW) : Prop :=
  pT_asksAt_259 call Q I14 x1 x2 x3 x4 x5 x7 w
def pT_asksAt_212 (call : Nat → List ZA → TW → (ZRes → TW → Prop) → Prop) (Q : Int → TW → Prop) (I14 : Int → Int → Int → TW → Prop) (I170 : Int → Int → TW → Prop) (x1 : Int) (x2 : Int) (x3 : Int) (x4 : Int) (x5 : Int) (x8 : Int) (s0 : Int) (s1 : Int) (w : TW) : Prop :=
  ∀ x7_43 : Int, x7_43 = w32 (s1 + s0) →
  ∀ x8_44 : Int, x8_44 = w32 (x8 + 1) →
  I170 x7_43 x8_44 w
def pT_asksAt_211 (call : Nat → List ZA → TW → (ZRes → TW → Prop) → Prop) (Q : Int → TW → Prop) (I14 : Int → Int → Int → TW → Prop) (I170 : Int → Int → TW → Prop) (x1 : Int) (x2 : Int) (x3 : Int) (x4 : Int) (x5 : Int) (x8 : Int) (s0 : Int) (w : TW) : Prop :=
  pT_asksAt_212 call Q I14 I170 x1 x2 x3 x4 x5 x8 0 s0 w
def pT_asksAt_170 (call : Nat → List ZA → TW → (ZRes → TW → Prop) → Prop) (Q : Int → TW → Prop) (I14 : Int → Int → Int → TW → Prop) (x1 : Int) (x2 : Int) (x3 : Int) (x4 : Int) (x5 : Int) (x7 : Int) (x8 : Int) (w : TW) : Prop :=
  ∀ I170 : Int → Int → TW → Prop, (∀ (x7 : Int) (x8 : Int) (w : TW), (
    ((tI w 61) ≤ x8 →
      pT_asksAt_221 call Q I14 x1 x2 x3 x4 x5 x7 w) ∧
    (¬ ((tI w 61) ≤ x8) →
      (0 ≤ x8 ∧ x8 < 40) ∧
      ((tA w 70 x8) = 0 →
        pT_asksAt_211 call Q I14 I170 x1 x2 x3 x4 x5 x8 x7 w) ∧
      (¬ ((tA w 70 x8) = 0) →
        (0 ≤ x5 ∧ x5 < 33000) ∧
        call 57 [ai x8, ai (tA w 67 x5)] w (zqI (fun v47 u46 =>
          (v47 = 0 →
            pT_asksAt_211 call Q I14 I170 x1 x2 x3 x4 x5 x8 x7 u46) ∧
          (¬ (v47 = 0) →
            pT_asksAt_212 call Q I14 I170 x1 x2 x3 x4 x5 x8 1 x7 u46)) zno)))) → I170 x7 x8 w) → I170 x7 x8 w
def pT_asksAt_151 (call : Nat → List ZA → TW → (ZRes → TW → Prop) → Prop) (Q : Int → TW → Prop) (I14 : Int → Int → Int → TW → Prop) (x1 : Int) (x2 : Int) (x3 : Int) (x4 : Int) (x5 : Int) (x6 : Int) (w : TW) : Prop :=
  (x6 = 0 →
    pT_asksAt_288 call Q I14 x1 x2 x3 x4 x5 w) ∧
  (¬ (x6 = 0) →
    (x2 = 1 →
      pT_asksAt_170 call Q I14 x1 x2 x3 x4 x5 0 0 w) ∧
    (¬ (x2 = 1) →
      (x2 = 2 →
        (0 ≤ x5 ∧ x5 < 33000) ∧
        (0 ≤ x5 ∧ x5 < 33000) ∧
        (0 ≤ (tA w 68 x5) ∧ (tA w 68 x5) < 1700) ∧
        call 58 [ai (tA w 67 x5), ai (tA w 18 (tA w 68 x5))] w (zqV (fun u38 =>
          ∀ x7_39 : Int, x7_39 = w32 (-(tI u38 99)) →
          pT_asksAt_259 call Q I14 x1 x2 x3 x4 x5 x7_39 u38) zno)) ∧
      (¬ (x2 = 2) →
        pT_asksAt_259 call Q I14 x1 x2 x3 x4 x5 0 w)))
def pT_asksAt_99 (call : Nat → List ZA → TW → (ZRes → TW → Prop) → Prop) (Q : Int → TW → Prop) (I14 : Int → Int → Int → TW → Prop) (x1 : Int) (x2 : Int) (x3 : Int) (x4 : Int) (x5 : Int) (x6 : Int) (x7 : Int) (w : TW) : Prop :=
  ∀ I99 : Int → Int → TW → Prop, (∀ (x6 : Int) (x7 : Int) (w : TW), (
    (¬ (x5 ≤ x7) ∧ (¬ (x6 = 0)) →
      (0 ≤ x7 ∧ x7 < 33000) ∧
      (((tA w 69 x7) = 0 → (0 ≤ x7 ∧ x7 < 33000) ∧ (0 ≤ x5 ∧ x5 < 33000))) ∧
      ∀ v18 : Int, v18 = (if ¬ ((tA w 69 x7) = 0) ∨ (¬ ((tA w 67 x7) = (tA w 67 x5))) then 1 else 0) →
      ∀ x7_20 : Int, x7_20 = w32 (x7 + 1) →
      I99 v18 x7_20 w) ∧
    (¬ (¬ (x5 ≤ x7) ∧ (¬ (x6 = 0))) →
      pT_asksAt_151 call Q I14 x1 x2 x3 x4 x5 x6 w)) → I99 x6 x7 w) → I99 x6 x7 w
def pT_asksAt_91 (call : Nat → List ZA → TW → (ZRes → TW → Prop) → Prop) (Q : Int → TW → Prop) (I14 : Int → Int → Int → TW → Prop) (x1 : Int) (x2 : Int) (x3 : Int) (x4 : Int) (x5 : Int) (x6 : Int) (w : TW) : Prop :=
  (0 ≤ x1 ∧ x1 < 41) ∧
  ∀ x7_16 : Int, x7_16 = tA w 64 x1 →
  pT_asksAt_99 call Q I14 x1 x2 x3 x4 x5 x6 x7_16 w
def pT_asksAt_55 (call : Nat → List ZA → TW → (ZRes → TW → Prop) → Prop) (Q : Int → TW → Prop) (I14 : Int → Int → Int → TW → Prop) (x1 : Int) (x2 : Int) (x3 : Int) (x4 : Int) (x5 : Int) (x6 : Int) (x7 : Int) (w : TW) : Prop :=
  ∀ I55 : Int → Int → TW → Prop, (∀ (x6 : Int) (x7 : Int) (w : TW), (
    (¬ (x7 ≤ 0) ∧ (¬ (x6 = 0)) →
      call 57 [ai x1, ai x7] w (zqI (fun v10 u9 =>
        ∀ v11 : Int, v11 = (if v10 = 0 then 1 else 0) →
        ∀ x7_12 : Int, x7_12 = i_shr x7 3 →
        I55 v11 x7_12 u9) zno)) ∧
    (¬ (¬ (x7 ≤ 0) ∧ (¬ (x6 = 0))) →
      pT_asksAt_91 call Q I14 x1 x2 x3 x4 x5 x6 w)) → I55 x6 x7 w) → I55 x6 x7 w
def pT_asksAt_14 (call : Nat → List ZA → TW → (ZRes → TW → Prop) → Prop) (Q : Int → TW → Prop) (x1 : Int) (x2 : Int) (x3 : Int) (x4 : Int) (x5 : Int) (w : TW) : Prop :=
  ∀ I14 : Int → Int → Int → TW → Prop, (∀ (x3 : Int) (x4 : Int) (x5 : Int) (w : TW), (
    (0 ≤ (w32 (x1 + 1)) ∧ (w32 (x1 + 1)) < 41) ∧
    ((tA w 64 (w32 (x1 + 1))) ≤ x5 →
      pT_asksAt_294 call Q x3 w) ∧
    (¬ ((tA w 64 (w32 (x1 + 1))) ≤ x5) →
      (0 ≤ x5 ∧ x5 < 33000) ∧
      ∀ v6 : Int, v6 = (if (tA w 69 x5) = 0 then 1 else 0) →
      (0 ≤ x5 ∧ x5 < 33000) ∧
      ∀ x7_8 : Int, x7_8 = i_shr (tA w 67 x5) 3 →
      pT_asksAt_55 call Q I14 x1 x2 x3 x4 x5 v6 x7_8 w)) → I14 x3 x4 x5 w) → I14 x3 x4 x5 w
def pT_asksAt_0 (call : Nat → List ZA → TW → (ZRes → TW → Prop) → Prop) (Q : Int → TW → Prop) (x1 : Int) (x2 : Int) (w : TW) : Prop :=
  (0 ≤ x1 ∧ x1 < 41) ∧
  ∀ x5_2 : Int, x5_2 = tA w 64 x1 →
  pT_asksAt_14 call Q x1 x2 (-4) 0 x5_2 w
/-! layAhead -/
def pT_layAhead_107 (call : Nat → List ZA → TW → (ZRes → TW → Prop) → Prop) (Q : TW → Prop) (w : TW) : Prop :=
  Q w
def pT_layAhead_7 (call : Nat → List ZA → TW → (ZRes → TW → Prop) → Prop) (Q : TW → Prop) (x1 : Int) (x2 : Int) (w : TW) : Prop :=
  ∀ I7 : Int → TW → Prop, (∀ (x2 : Int) (w : TW), (
    (¬ (x2 < 0) ∧ (¬ (400 ≤ (tI w 93))) →
      (0 ≤ (tI w 93) ∧ (tI w 93) < 400) ∧
      ∀ u2 : TW, u2 = sA w 94 (tI w 93) x1 →
      (0 ≤ x2 ∧ x2 < 100) ∧
      (0 ≤ (tI u2 93) ∧ (tI u2 93) < 400) ∧
      ∀ u5 : TW, u5 = sA u2 95 (tI u2 93) (tA u2 100 x2) →
      (0 ≤ x2 ∧ x2 < 100) ∧
      (0 ≤ (tI u5 93) ∧ (tI u5 93) < 400) ∧
      ∀ u8 : TW, u8 = sA u5 96 (tI u5 93) (tA u5 101 x2) →
      (0 ≤ x2 ∧ x2 < 100) ∧
      (0 ≤ (tI u8 93) ∧ (tI u8 93) < 400) ∧
      ∀ u11 : TW, u11 = sA u8 97 (tI u8 93) (tA u8 102 x2) →
      (0 ≤ x2 ∧ x2 < 100) ∧
      (0 ≤ (tI u11 93) ∧ (tI u11 93) < 400) ∧
      ∀ u14 : TW, u14 = sA u11 98 (tI u11 93) (zb (tA u11 103 x2)) →
      ∀ u16 : TW, u16 = sI u14 93 (w32 ((tI u14 93) + 1)) →
      ∀ x2_17 : Int, x2_17 = w32 (x2 + (-1)) →
      I7 x2_17 u16) ∧
    (¬ (¬ (x2 < 0) ∧ (¬ (400 ≤ (tI w 93)))) →
      pT_layAhead_107 call Q w)) → I7 x2 w) → I7 x2 w
def pT_layAhead_0 (call : Nat → List ZA → TW → (ZRes → TW → Prop) → Prop) (Q : TW → Prop) (x1 : Int) (w : TW) : Prop :=
  ∀ x2_1 : Int, x2_1 = w32 ((tI w 99) - 1) →
  pT_layAhead_7 call Q x1 x2_1 w
/-! settle -/
def pT_settle_162 (call : Nat → List ZA → TW → (ZRes → TW → Prop) → Prop) (Q : TW → Prop) (w : TW) : Prop :=
  Q w
def pT_settle_0 (call : Nat → List ZA → TW → (ZRes → TW → Prop) → Prop) (Q : TW → Prop) (x1 : Int) (x2 : Int) (w : TW) : Prop :=
  call 53 [ai x1] w (zqV (fun u1 =>
    call 54 [] u1 (zqI (fun v3 u2 =>
      (0 ≤ x1 ∧ x1 < 3900) ∧
      ∀ u4 : TW, u4 = sA u2 83 x1 (-4) →
      (0 ≤ x1 ∧ x1 < 3900) ∧
      ∀ u6 : TW, u6 = sA u4 81 x1 (-4) →
      (0 ≤ x1 ∧ x1 < 3900) ∧
      ∀ u8 : TW, u8 = sA u6 84 x1 0 →
      (v3 = (-4) →
        (0 ≤ x1 ∧ x1 < 3900) ∧
        ∀ u57 : TW, u57 = sA u8 80 x1 0 →
        Q u57) ∧
      (¬ (v3 = (-4)) →
        call 56 [ai v3, ai x2] u8 (zqI (fun v12 u11 =>
          (v12 = (-4) →
            (0 ≤ v3 ∧ v3 < 40) ∧
            (0 ≤ x1 ∧ x1 < 3900) ∧
            ∀ u33 : TW, u33 = sA u11 81 x1 (tA u11 62 v3) →
            (0 ≤ v3 ∧ v3 < 40) ∧
            (0 ≤ x1 ∧ x1 < 3900) ∧
            ∀ u36 : TW, u36 = sA u33 82 x1 (tA u33 63 v3) →
            (0 ≤ v3 ∧ v3 < 40) ∧
            (0 ≤ (tA u36 62 v3) ∧ (tA u36 62 v3) < 192) ∧
            ∀ v40 : Int, v40 = (if ¬ ((tA u36 53 (tA u36 62 v3)) = 0) then 1 else 0) →
            ∀ v41 : Int, v41 = (if v40 = 0 then 1 else 2) →
            (0 ≤ x1 ∧ x1 < 3900) ∧
            ∀ u42 : TW, u42 = sA u36 80 x1 v41 →
            ∀ v44 : Int, v44 = (if ¬ (v40 = 0) then 1 else 0) →
            (0 ≤ x1 ∧ x1 < 3900) ∧
            ∀ u45 : TW, u45 = sA u42 84 x1 v44 →
            (v40 = 0 →
              pT_settle_162 call Q u45) ∧
            (¬ (v40 = 0) →
              ∀ u48 : TW, u48 = sI u45 99 0 →
              call 59 [ai 0, ai 0, al 0, ai 0] u48 (zqV (fun u49 =>
                call 63 [ai x1] u49 (zqV (fun u50 =>
                  pT_settle_162 call Q u50) zno)) zno))) ∧
          (¬ (v12 = (-4)) →
            (0 ≤ v12 ∧ v12 < 33000) ∧
            (0 ≤ (tA u11 68 v12) ∧ (tA u11 68 v12) < 1700) ∧
            ∀ x5_16 : Int, x5_16 = tA u11 18 (tA u11 68 v12) →
            ∀ v17 : Int, v17 = (if x5_16 < 3 then (if x5_16 = 1 then 4 else (if x5_16 = 2 then 5 else 6)) else 3) →
            (0 ≤ x1 ∧ x1 < 3900) ∧
            ∀ u18 : TW, u18 = sA u11 80 x1 v17 →
            (0 ≤ v12 ∧ v12 < 33000) ∧
            (0 ≤ x1 ∧ x1 < 3900) ∧
            ∀ u21 : TW, u21 = sA u18 83 x1 (tA u18 67 v12) →
            (0 ≤ v12 ∧ v12 < 33000) ∧
            call 58 [ai (tA u21 67 v12), ai x5_16] u21 (zqV (fun u24 =>
              (0 ≤ x1 ∧ x1 < 3900) ∧
              ∀ u25 : TW, u25 = sA u24 84 x1 (tI u24 99) →
              call 63 [ai x1] u25 (zqV (fun u27 =>
                Q u27) zno)) zno))) zno))) zno)) zno)
/-! makes -/
def pT_makes_277 (call : Nat → List ZA → TW → (ZRes → TW → Prop) → Prop) (Q : Int → TW → Prop) (x1 : Int) (x6 : Int) (w : TW) : Prop :=
  (0 ≤ x1 ∧ x1 < 13) ∧
  ∀ u10 : TW, u10 = sA w 77 x1 x6 →
  Q 1 u10
def pT_makes_264 (call : Nat → List ZA → TW → (ZRes → TW → Prop) → Prop) (Q : Int → TW → Prop) (I47 : Int → TW → Prop) (x1 : Int) (x3 : Int) (x5 : Int) (x6 : Int) (x7 : Int) (w : TW) : Prop :=
  ∀ x6_41 : Int, x6_41 = w32 (x6 + 1) →
  call 52 [ai x7, ai x3] w (zqV (fun u42 =>
    I47 x6_41 u42) zno)
def pT_makes_248 (call : Nat → List ZA → TW → (ZRes → TW → Prop) → Prop) (Q : Int → TW → Prop) (I47 : Int → TW → Prop) (x1 : Int) (x3 : Int) (x5 : Int) (x6 : Int) (x7 : Int) (x8 : Int) (w : TW) : Prop :=
  (x8 = (-4) →
    pT_makes_264 call Q I47 x1 x3 x5 x6 x7 w) ∧
  (¬ (x8 = (-4)) →
    (0 ≤ x8 ∧ x8 < 3900) ∧
    ∀ u43 : TW, u43 = sA w 87 x8 x7 →
    pT_makes_264 call Q I47 x1 x3 x5 x6 x7 u43)
def pT_makes_227 (call : Nat → List ZA → TW → (ZRes → TW → Prop) → Prop) (Q : Int → TW → Prop) (I47 : Int → TW → Prop) (x1 : Int) (x3 : Int) (x5 : Int) (x6 : Int) (x7 : Int) (x8 : Int) (w : TW) : Prop :=
  (x8 = (-4) →
    pT_makes_248 call Q I47 x1 x3 x5 x6 x7 x8 w) ∧
  (¬ (x8 = (-4)) →
    (0 ≤ x8 ∧ x8 < 3900) ∧
    (0 ≤ (tA w 87 x8) ∧ (tA w 87 x8) < 3900) ∧
    ∀ u47 : TW, u47 = sA w 88 (tA w 87 x8) x7 →
    pT_makes_248 call Q I47 x1 x3 x5 x6 x7 x8 u47)
def pT_makes_66 (call : Nat → List ZA → TW → (ZRes → TW → Prop) → Prop) (Q : Int → TW → Prop) (w : TW) : Prop :=
  Q 0 w
def pT_makes_47 (call : Nat → List ZA → TW → (ZRes → TW → Prop) → Prop) (Q : Int → TW → Prop) (x1 : Int) (x3 : Int) (x5 : Int) (x6 : Int) (w : TW) : Prop :=
  ∀ I47 : Int → TW → Prop, (∀ (x6 : Int) (w : TW), (
    ((tI w 93) ≤ 0 →
      pT_makes_277 call Q x1 x6 w) ∧
    (¬ ((tI w 93) ≤ 0) →
      ((w32 (x6 + (tI w 93))) ≤ 120 →
        ∀ u13 : TW, u13 = sI w 93 (w32 ((tI w 93) - 1)) →
        ∀ x7_14 : Int, x7_14 = w32 (x5 + x6) →
        (0 ≤ (tI u13 93) ∧ (tI u13 93) < 400) ∧
        ∀ x8_16 : Int, x8_16 = tA u13 94 (tI u13 93) →
        (0 ≤ x7_14 ∧ x7_14 < 3900) ∧
        ∀ u17 : TW, u17 = sA u13 85 x7_14 x8_16 →
        (0 ≤ (tI u17 93) ∧ (tI u17 93) < 400) ∧
        (0 ≤ x7_14 ∧ x7_14 < 3900) ∧
        ∀ u20 : TW, u20 = sA u17 89 x7_14 (tA u17 95 (tI u17 93)) →
        (0 ≤ (tI u20 93) ∧ (tI u20 93) < 400) ∧
        (0 ≤ x7_14 ∧ x7_14 < 3900) ∧
        ∀ u23 : TW, u23 = sA u20 90 x7_14 (tA u20 96 (tI u20 93)) →
        (0 ≤ (tI u23 93) ∧ (tI u23 93) < 400) ∧
        (0 ≤ x7_14 ∧ x7_14 < 3900) ∧
        ∀ u26 : TW, u26 = sA u23 91 x7_14 (tA u23 97 (tI u23 93)) →
        (0 ≤ (tI u26 93) ∧ (tI u26 93) < 400) ∧
        (0 ≤ x7_14 ∧ x7_14 < 3900) ∧
        ∀ u29 : TW, u29 = sA u26 92 x7_14 (zb (tA u26 98 (tI u26 93))) →
        (0 ≤ x7_14 ∧ x7_14 < 3900) ∧
        ∀ u31 : TW, u31 = sA u29 86 x7_14 (-4) →
        (0 ≤ x7_14 ∧ x7_14 < 3900) ∧
        ∀ u33 : TW, u33 = sA u31 87 x7_14 (-4) →
        (0 ≤ x7_14 ∧ x7_14 < 3900) ∧
        ∀ u35 : TW, u35 = sA u33 88 x7_14 (-4) →
        ((¬ (x8_16 = (-4)) → (0 ≤ x8_16 ∧ x8_16 < 3900))) ∧
        (¬ (x8_16 = (-4)) ∧ ((tA u35 86 x8_16) = (-4)) →
          (0 ≤ x8_16 ∧ x8_16 < 3900) ∧
          ∀ u38 : TW, u38 = sA u35 86 x8_16 x7_14 →
          pT_makes_248 call Q I47 x1 x3 x5 x6 x7_14 x8_16 u38) ∧
        (¬ (¬ (x8_16 = (-4)) ∧ ((tA u35 86 x8_16) = (-4))) →
          pT_makes_227 call Q I47 x1 x3 x5 x6 x7_14 x8_16 u35)) ∧
      (¬ ((w32 (x6 + (tI w 93))) ≤ 120) →
        pT_makes_66 call Q w))) → I47 x6 w) → I47 x6 w
def pT_makes_0 (call : Nat → List ZA → TW → (ZRes → TW → Prop) → Prop) (Q : Int → TW → Prop) (x1 : Int) (x2 : Int) (x3 : Int) (x4 : Int) (w : TW) : Prop :=
  call 46 [ai x2, ai x4] w (zqV (fun u1 =>
    (0 ≤ x1 ∧ x1 < 13) ∧
    ∀ u2 : TW, u2 = sA u1 78 x1 x3 →
    (0 ≤ x1 ∧ x1 < 13) ∧
    ∀ u4 : TW, u4 = sA u2 79 x1 (tI u2 10) →
    ∀ x5_6 : Int, x5_6 = w32 (300 * x1) →
    ∀ u7 : TW, u7 = sI u4 93 1 →
    ∀ u8 : TW, u8 = sA u7 94 0 (-4) →
    pT_makes_47 call Q x1 x3 x5_6 0 u8) zno)
/-! read -/
def pT_read_202 (call : Nat → List ZA → TW → (ZRes → TW → Prop) → Prop) (Q : Int → TW → Prop) (x1 : Int) (x2 : Int) (w : TW) : Prop :=
  ∀ v30 : Int, v30 = (if (tI w 7) ≤ 0 then (if x1 = 0 then x2 else (-3)) else w32 ((-10) - (tI w 8))) →
  Q v30 w
def pT_read_160 (call : Nat → List ZA → TW → (ZRes → TW → Prop) → Prop) (Q : Int → TW → Prop) (x1 : Int) (w : TW) : Prop :=
  ∀ v26 : Int, v26 = (if ((tI w 7) = 0) ∧ (x1 = 0) then 1 else 0) →
  ∀ u27 : TW, u27 = sI w 9 v26 →
  ∀ x2_28 : Int, x2_28 = tI u27 41 →
  ((tI u27 9) = 0 →
    ∀ u34 : TW, u34 = sI u27 10 0 →
    ∀ u35 : TW, u35 = sI u34 41 0 →
    pT_read_202 call Q x1 x2_28 u35) ∧
  (¬ ((tI u27 9) = 0) →
    pT_read_202 call Q x1 x2_28 u27)
def pT_read_118 (call : Nat → List ZA → TW → (ZRes → TW → Prop) → Prop) (Q : Int → TW → Prop) (x1 : Int) (x2 : Int) (w : TW) : Prop :=
  ∀ I118 : Int → Int → TW → Prop, (∀ (x1 : Int) (x2 : Int) (w : TW), (
    (¬ ((tI w 41) ≤ x2) ∧ (((tI w 7) = 0) ∧ (x1 = 0)) →
      call 45 [ai x2, ai x2, ai 0, ai 0] w (zqI (fun v21 u20 =>
        ∀ v22 : Int, v22 = (if v21 = 0 then 1 else 0) →
        ∀ x2_23 : Int, x2_23 = w32 (x2 + 1) →
        I118 v22 x2_23 u20) zno)) ∧
    (¬ (¬ ((tI w 41) ≤ x2) ∧ (((tI w 7) = 0) ∧ (x1 = 0))) →
      pT_read_160 call Q x1 w)) → I118 x1 x2 w) → I118 x1 x2 w
def pT_read_109 (call : Nat → List ZA → TW → (ZRes → TW → Prop) → Prop) (Q : Int → TW → Prop) (w : TW) : Prop :=
  ∀ u19 : TW, u19 = sI w 1 0 →
  pT_read_118 call Q 0 0 u19
def pT_read_98 (call : Nat → List ZA → TW → (ZRes → TW → Prop) → Prop) (Q : Int → TW → Prop) (w : TW) : Prop :=
  ((tI w 7) = 0 →
    call 43 [] w (zqV (fun u45 =>
      pT_read_109 call Q u45) zno)) ∧
  (¬ ((tI w 7) = 0) →
    pT_read_109 call Q w)
def pT_read_79 (call : Nat → List ZA → TW → (ZRes → TW → Prop) → Prop) (Q : Int → TW → Prop) (w : TW) : Prop :=
  (((tI w 7) = 0) ∧ (¬ ((tI w 3) = 0)) →
    call 12 [ai 2] w (zqV (fun u17 =>
      pT_read_98 call Q u17) zno)) ∧
  (¬ (((tI w 7) = 0) ∧ (¬ ((tI w 3) = 0))) →
    pT_read_98 call Q w)
def pT_read_57 (call : Nat → List ZA → TW → (ZRes → TW → Prop) → Prop) (Q : Int → TW → Prop) (w : TW) : Prop :=
  ∀ I57 : TW → Prop, (∀ (w : TW), (
    (((tI w 7) = 0) ∧ (¬ ((ff_isWord 2 w) = 0)) →
      call 21 [] w (zqV (fun u16 =>
        I57 u16) zno)) ∧
    (¬ (((tI w 7) = 0) ∧ (¬ ((ff_isWord 2 w) = 0))) →
      pT_read_79 call Q w)) → I57 w) → I57 w
def pT_read_34 (call : Nat → List ZA → TW → (ZRes → TW → Prop) → Prop) (Q : Int → TW → Prop) (w : TW) : Prop :=
  ∀ I34 : TW → Prop, (∀ (w : TW), (
    (((tI w 7) = 0) ∧ (¬ ((ff_isWord 0 w) = 0)) →
      call 11 [ai 0] w (zqV (fun u11 =>
        I34 u11) zno)) ∧
    (¬ (((tI w 7) = 0) ∧ (¬ ((ff_isWord 0 w) = 0))) →
      pT_read_57 call Q w)) → I34 w) → I34 w
def pT_read_0 (call : Nat → List ZA → TW → (ZRes → TW → Prop) → Prop) (Q : Int → TW → Prop) (w : TW) : Prop :=
  ((tI w 9) = 0 →
    ∀ u2 : TW, u2 = sI w 10 0 →
    ∀ u3 : TW, u3 = sI u2 41 0 →
    ∀ u4 : TW, u4 = sI u3 16 0 →
    ∀ u5 : TW, u5 = sI u4 11 0 →
    call 3 [] u5 (zqV (fun u6 =>
      pT_read_34 call Q u6) zno)) ∧
  (¬ ((tI w 9) = 0) →
    Q (-2) w)
/-! fault -/
noncomputable def ff_fault (w : TW) : Int := tI w 7
theorem fr_fault {w : TW} (hw : tok w) : zr (ff_fault w) := by unfold ff_fault; exact (hw.i 7 (by decide))
def pT_fault_0 (call : Nat → List ZA → TW → (ZRes → TW → Prop) → Prop) (Q : Int → TW → Prop) (w : TW) : Prop :=
  Q (tI w 7) w
/-! add -/
def pT_add_59 (call : Nat → List ZA → TW → (ZRes → TW → Prop) → Prop) (Q : Int → TW → Prop) (x1 : Int) (w : TW) : Prop :=
  ∀ u9 : TW, u9 = sI w 1 0 →
  ((tI u9 7) ≤ 0 →
    ∀ u11 : TW, u11 = sI u9 11 (w32 ((tI u9 11) + 1)) →
    Q x1 u11) ∧
  (¬ ((tI u9 7) ≤ 0) →
    ∀ u12 : TW, u12 = sI u9 10 x1 →
    Q (w32 ((-10) - (tI u12 8))) u12)
def pT_add_40 (call : Nat → List ZA → TW → (ZRes → TW → Prop) → Prop) (Q : Int → TW → Prop) (x1 : Int) (w : TW) : Prop :=
  (((tI w 7) = 0) ∧ (¬ ((tI w 3) = 0)) →
    call 12 [ai 2] w (zqV (fun u8 =>
      pT_add_59 call Q x1 u8) zno)) ∧
  (¬ (((tI w 7) = 0) ∧ (¬ ((tI w 3) = 0))) →
    pT_add_59 call Q x1 w)
def pT_add_0 (call : Nat → List ZA → TW → (ZRes → TW → Prop) → Prop) (Q : Int → TW → Prop) (w : TW) : Prop :=
  ((tI w 9) = 0 →
    Q (-2) w) ∧
  (¬ ((tI w 9) = 0) →
    ∀ x1_2 : Int, x1_2 = tI w 10 →
    call 3 [] w (zqV (fun u3 =>
      ((ff_isWord 0 u3) = 0 →
        call 12 [ai 2] u3 (zqV (fun u7 =>
          pT_add_40 call Q x1_2 u7) zno)) ∧
      (¬ ((ff_isWord 0 u3) = 0) →
        call 11 [ai 1] u3 (zqV (fun u18 =>
          pT_add_40 call Q x1_2 u18) zno))) zno))
/-! isFunction -/
noncomputable def ff_isFunction (x1 : Int) (w : TW) : Int := ff_in x1 0 (w32 ((tI w 41) - 1)) w
theorem fr_isFunction {x1 : Int} {w : TW} (hw : tok w) (rx1 : zr x1) : zr (ff_isFunction x1 w) := by unfold ff_isFunction; exact (fr_in hw (zrl_i rx1) (zrl_k 0 (by decide) (by decide)) (zrl_i (w32_r _)))
theorem fb_isFunction (x1 : Int) (w : TW) : ff_isFunction x1 w = 0 ∨ ff_isFunction x1 w = 1 := by unfold ff_isFunction; exact (fb_in _ _ _ _)
def pT_isFunction_0 (call : Nat → List ZA → TW → (ZRes → TW → Prop) → Prop) (Q : Int → TW → Prop) (x1 : Int) (w : TW) : Prop :=
  Q (ff_in x1 0 (w32 ((tI w 41) - 1)) w) w
/-! moved -/
noncomputable def ff_moved (x0 : Int) (x1 : Int) (w : TW) : Int := ((if x0 = (-4) then (-4) else w32 (x0 + x1)))
theorem fr_moved {x0 : Int} {x1 : Int} {w : TW} (hw : tok w) (rx0 : zr x0) (rx1 : zr x1) : zr (ff_moved x0 x1 w) := by unfold ff_moved; exact ((zr_ite (zr_k (-4) (by decide) (by decide)) (w32_r _)))
def pT_moved_0 (call : Nat → List ZA → TW → (ZRes → TW → Prop) → Prop) (Q : Int → TW → Prop) (x0 : Int) (x1 : Int) (w : TW) : Prop :=
  ∀ v1 : Int, v1 = (if x0 = (-4) then (-4) else w32 (x0 + x1)) →
  Q v1 w
/-! remake -/
def pT_remake_20 (call : Nat → List ZA → TW → (ZRes → TW → Prop) → Prop) (Q : Int → TW → Prop) (w : TW) : Prop :=
  Q (-1) w
def pT_remake_261 (call : Nat → List ZA → TW → (ZRes → TW → Prop) → Prop) (Q : Int → TW → Prop) (x1 : Int) (x2 : Int) (w : TW) : Prop :=
  (0 ≤ x1 ∧ x1 < 13) ∧
  ∀ u12 : TW, u12 = sA w 77 x1 (tA w 77 12) →
  (0 ≤ x1 ∧ x1 < 13) ∧
  ∀ u14 : TW, u14 = sA u12 78 x1 x2 →
  (0 ≤ x1 ∧ x1 < 13) ∧
  ∀ u16 : TW, u16 = sA u14 79 x1 (tI u14 10) →
  (0 ≤ x1 ∧ x1 < 13) ∧
  Q (tA u16 77 x1) u16
def pT_remake_49 (call : Nat → List ZA → TW → (ZRes → TW → Prop) → Prop) (Q : Int → TW → Prop) (x1 : Int) (x2 : Int) (x3 : Int) (x4 : Int) (w : TW) : Prop :=
  ∀ I49 : Int → TW → Prop, (∀ (x4 : Int) (w : TW), (
    ((tA w 77 12) ≤ x4 →
      pT_remake_261 call Q x1 x2 w) ∧
    (¬ ((tA w 77 12) ≤ x4) →
      ∀ x5_19 : Int, x5_19 = w32 (3600 + x4) →
      ∀ x6_20 : Int, x6_20 = w32 (x5_19 + x3) →
      (0 ≤ x5_19 ∧ x5_19 < 3900) ∧
      (0 ≤ x6_20 ∧ x6_20 < 3900) ∧
      ∀ u22 : TW, u22 = sA w 80 x6_20 (tA w 80 x5_19) →
      (0 ≤ x5_19 ∧ x5_19 < 3900) ∧
      (0 ≤ x6_20 ∧ x6_20 < 3900) ∧
      ∀ u25 : TW, u25 = sA u22 81 x6_20 (tA u22 81 x5_19) →
      (0 ≤ x5_19 ∧ x5_19 < 3900) ∧
      (0 ≤ x6_20 ∧ x6_20 < 3900) ∧
      ∀ u28 : TW, u28 = sA u25 82 x6_20 (tA u25 82 x5_19) →
      (0 ≤ x5_19 ∧ x5_19 < 3900) ∧
      (0 ≤ x6_20 ∧ x6_20 < 3900) ∧
      ∀ u31 : TW, u31 = sA u28 83 x6_20 (tA u28 83 x5_19) →
      (0 ≤ x5_19 ∧ x5_19 < 3900) ∧
      (0 ≤ x6_20 ∧ x6_20 < 3900) ∧
      ∀ u34 : TW, u34 = sA u31 84 x6_20 (tA u31 84 x5_19) →
      (0 ≤ x5_19 ∧ x5_19 < 3900) ∧
      (0 ≤ x6_20 ∧ x6_20 < 3900) ∧
      ∀ u39 : TW, u39 = sA u34 85 x6_20 (ff_moved (tA u34 85 x5_19) x3 u34) →
      (0 ≤ x5_19 ∧ x5_19 < 3900) ∧
      (0 ≤ x6_20 ∧ x6_20 < 3900) ∧
      ∀ u44 : TW, u44 = sA u39 86 x6_20 (ff_moved (tA u39 86 x5_19) x3 u39) →
      (0 ≤ x5_19 ∧ x5_19 < 3900) ∧
      (0 ≤ x6_20 ∧ x6_20 < 3900) ∧
      ∀ u49 : TW, u49 = sA u44 88 x6_20 (ff_moved (tA u44 88 x5_19) x3 u44) →
      (0 ≤ x5_19 ∧ x5_19 < 3900) ∧
      (0 ≤ x6_20 ∧ x6_20 < 3900) ∧
      ∀ u52 : TW, u52 = sA u49 89 x6_20 (tA u49 89 x5_19) →
      (0 ≤ x5_19 ∧ x5_19 < 3900) ∧
      (0 ≤ x6_20 ∧ x6_20 < 3900) ∧
      ∀ u55 : TW, u55 = sA u52 90 x6_20 (tA u52 90 x5_19) →
      (0 ≤ x5_19 ∧ x5_19 < 3900) ∧
      (0 ≤ x6_20 ∧ x6_20 < 3900) ∧
      ∀ u58 : TW, u58 = sA u55 91 x6_20 (tA u55 91 x5_19) →
      (0 ≤ x5_19 ∧ x5_19 < 3900) ∧
      (0 ≤ x6_20 ∧ x6_20 < 3900) ∧
      ∀ u61 : TW, u61 = sA u58 92 x6_20 (zb (tA u58 92 x5_19)) →
      ∀ x4_63 : Int, x4_63 = w32 (x4 + 1) →
      I49 x4_63 u61)) → I49 x4 w) → I49 x4 w
def pT_remake_0 (call : Nat → List ZA → TW → (ZRes → TW → Prop) → Prop) (Q : Int → TW → Prop) (x1 : Int) (x2 : Int) (w : TW) : Prop :=
  (((ff_isFunction x1 w) = 0) ∨ ((ff_in x2 0 3 w) = 0) →
    pT_remake_20 call Q w) ∧
  (¬ (((ff_isFunction x1 w) = 0) ∨ ((ff_in x2 0 3 w) = 0)) →
    call 45 [ai 12, ai x1, ai x2, ai 0] w (zqI (fun v8 u7 =>
      (v8 = 0 →
        Q (-3) u7) ∧
      (¬ (v8 = 0) →
        ∀ x3_10 : Int, x3_10 = w32 (300 * (w32 (x1 - 12))) →
        pT_remake_49 call Q x1 x2 x3_10 0 u7)) zno))
/-! isKind -/
noncomputable def ff_isKind (x1 : Int) (w : TW) : Int := ff_in x1 0 (w32 ((tI w 10) - 1)) w
theorem fr_isKind {x1 : Int} {w : TW} (hw : tok w) (rx1 : zr x1) : zr (ff_isKind x1 w) := by unfold ff_isKind; exact (fr_in hw (zrl_i rx1) (zrl_k 0 (by decide) (by decide)) (zrl_i (w32_r _)))
theorem fb_isKind (x1 : Int) (w : TW) : ff_isKind x1 w = 0 ∨ ff_isKind x1 w = 1 := by unfold ff_isKind; exact (fb_in _ _ _ _)
def pT_isKind_0 (call : Nat → List ZA → TW → (ZRes → TW → Prop) → Prop) (Q : Int → TW → Prop) (x1 : Int) (w : TW) : Prop :=
  Q (ff_in x1 0 (w32 ((tI w 10) - 1)) w) w
/-! kind -/
def pT_kind_20 (call : Nat → List ZA → TW → (ZRes → TW → Prop) → Prop) (Q : Int → TW → Prop) (w : TW) : Prop :=
  Q (-1) w
def pT_kind_119 (call : Nat → List ZA → TW → (ZRes → TW → Prop) → Prop) (Q : Int → TW → Prop) (x1 : Int) (x2 : Int) (w : TW) : Prop :=
  (0 ≤ x1 ∧ x1 < 24) ∧
  ((¬ ((tA w 14 x1) ≤ (w32 (x2 - 3))) → (0 ≤ (w32 ((w32 ((w32 (4 * x1)) + x2)) - 3)) ∧ (w32 ((w32 ((w32 (4 * x1)) + x2)) - 3)) < 96))) ∧
  ∀ v8 : Int, v8 = (if ¬ ((tA w 14 x1) ≤ (w32 (x2 - 3))) then tA w 15 (w32 ((w32 ((w32 (4 * x1)) + x2)) - 3)) else (-4)) →
  Q v8 w
def pT_kind_0 (call : Nat → List ZA → TW → (ZRes → TW → Prop) → Prop) (Q : Int → TW → Prop) (x1 : Int) (x2 : Int) (w : TW) : Prop :=
  (((ff_isKind x1 w) = 0) ∨ ((ff_in x2 0 7 w) = 0) →
    pT_kind_20 call Q w) ∧
  (¬ (((ff_isKind x1 w) = 0) ∨ ((ff_in x2 0 7 w) = 0)) →
    (x2 = 0 →
      (0 ≤ x1 ∧ x1 < 24) ∧
      Q (tA w 13 x1) w) ∧
    (x2 = 1 →
      call 16 [ai x1] w (zqI (fun v15 u14 =>
        ∀ v16 : Int, v16 = (if ¬ (v15 = 0) then 1 else 0) →
        Q v16 u14) zno)) ∧
    (x2 = 2 →
      (0 ≤ x1 ∧ x1 < 24) ∧
      Q (tA w 14 x1) w) ∧
    (x2 = 7 →
      ∀ v22 : Int, v22 = (if ¬ ((tI w 41) ≤ 0) ∧ (¬ (x1 < (tA w 79 0))) then 1 else 0) →
      Q v22 w) ∧
    (¬ x2 = 0 → ¬ x2 = 1 → ¬ x2 = 2 → ¬ x2 = 7 → 
      pT_kind_119 call Q x1 x2 w))
/-! kindNamed -/
def pT_kindNamed_0 (call : Nat → List ZA → TW → (ZRes → TW → Prop) → Prop) (Q : Int → TW → Prop) (x1 : Int) (w : TW) : Prop :=
  call 14 [al x1] w (zqI (fun v2 u1 =>
    Q v2 u1) zno)
/-! depth -/
def pT_depth_67 (call : Nat → List ZA → TW → (ZRes → TW → Prop) → Prop) (Q : Int → TW → Prop) (x2 : Int) (w : TW) : Prop :=
  Q x2 w
def pT_depth_48 (call : Nat → List ZA → TW → (ZRes → TW → Prop) → Prop) (Q : Int → TW → Prop) (I4 : Int → Int → TW → Prop) (x1 : Int) (x2 : Int) (x3 : Int) (x4 : Int) (w : TW) : Prop :=
  ∀ v5 : Int, v5 = (if ¬ (x4 ≤ x2) then x4 else x2) →
  ∀ x3_6 : Int, x3_6 = w32 (x3 + 1) →
  I4 v5 x3_6 w
def pT_depth_26 (call : Nat → List ZA → TW → (ZRes → TW → Prop) → Prop) (Q : Int → TW → Prop) (I4 : Int → Int → TW → Prop) (x1 : Int) (x2 : Int) (x3 : Int) (x4 : Int) (x5 : Int) (w : TW) : Prop :=
  ∀ I26 : Int → Int → TW → Prop, (∀ (x4 : Int) (x5 : Int) (w : TW), (
    (x5 = (-4) →
      pT_depth_48 call Q I4 x1 x2 x3 x4 w) ∧
    (¬ (x5 = (-4)) →
      ∀ x4_9 : Int, x4_9 = w32 (x4 + 1) →
      (0 ≤ x5 ∧ x5 < 3900) ∧
      ∀ x5_11 : Int, x5_11 = tA w 85 x5 →
      I26 x4_9 x5_11 w)) → I26 x4 x5 w) → I26 x4 x5 w
def pT_depth_4 (call : Nat → List ZA → TW → (ZRes → TW → Prop) → Prop) (Q : Int → TW → Prop) (x1 : Int) (x2 : Int) (x3 : Int) (w : TW) : Prop :=
  ∀ I4 : Int → Int → TW → Prop, (∀ (x2 : Int) (x3 : Int) (w : TW), (
    (0 ≤ x1 ∧ x1 < 13) ∧
    ((tA w 77 x1) ≤ x3 →
      pT_depth_67 call Q x2 w) ∧
    (¬ ((tA w 77 x1) ≤ x3) →
      ∀ x5_3 : Int, x5_3 = w32 ((w32 (300 * x1)) + x3) →
      pT_depth_26 call Q I4 x1 x2 x3 0 x5_3 w)) → I4 x2 x3 w) → I4 x2 x3 w
def pT_depth_0 (call : Nat → List ZA → TW → (ZRes → TW → Prop) → Prop) (Q : Int → TW → Prop) (x1 : Int) (w : TW) : Prop :=
  pT_depth_4 call Q x1 0 0 w
/-! function -/
def pT_function_20 (call : Nat → List ZA → TW → (ZRes → TW → Prop) → Prop) (Q : Int → TW → Prop) (w : TW) : Prop :=
  Q (-1) w
def pT_function_0 (call : Nat → List ZA → TW → (ZRes → TW → Prop) → Prop) (Q : Int → TW → Prop) (x1 : Int) (x2 : Int) (w : TW) : Prop :=
  (((ff_isFunction x1 w) = 0) ∨ ((ff_in x2 0 8 w) = 0) →
    pT_function_20 call Q w) ∧
  (¬ (((ff_isFunction x1 w) = 0) ∨ ((ff_in x2 0 8 w) = 0)) →
    (x2 = 0 →
      (0 ≤ x1 ∧ x1 < 12) ∧
      Q (tA w 43 x1) w) ∧
    (x2 = 1 →
      (0 ≤ x1 ∧ x1 < 12) ∧
      Q (tA w 45 x1) w) ∧
    (x2 = 2 →
      (0 ≤ x1 ∧ x1 < 12) ∧
      Q (tA w 46 x1) w) ∧
    (x2 = 3 →
      (0 ≤ x1 ∧ x1 < 13) ∧
      Q (tA w 77 x1) w) ∧
    (x2 = 4 →
      (0 ≤ x1 ∧ x1 < 13) ∧
      Q (tA w 78 x1) w) ∧
    (x2 = 5 →
      call 73 [ai x1] w (zqI (fun v23 u22 =>
        Q v23 u22) zno)) ∧
    (¬ x2 = 0 → ¬ x2 = 1 → ¬ x2 = 2 → ¬ x2 = 3 → ¬ x2 = 4 → ¬ x2 = 5 → 
      (0 ≤ x1 ∧ x1 < 12) ∧
      ((¬ ((tA w 43 x1) ≤ (w32 (x2 - 6))) → (0 ≤ (w32 ((w32 ((w32 (3 * x1)) + x2)) - 6)) ∧ (w32 ((w32 ((w32 (3 * x1)) + x2)) - 6)) < 36))) ∧
      ∀ v8 : Int, v8 = (if ¬ ((tA w 43 x1) ≤ (w32 (x2 - 6))) then tA w 44 (w32 ((w32 ((w32 (3 * x1)) + x2)) - 6)) else (-4)) →
      Q v8 w))
/-! node -/
def pT_node_38 (call : Nat → List ZA → TW → (ZRes → TW → Prop) → Prop) (Q : Int → TW → Prop) (w : TW) : Prop :=
  Q (-1) w
def pT_node_155 (call : Nat → List ZA → TW → (ZRes → TW → Prop) → Prop) (Q : Int → TW → Prop) (x4 : Int) (x5 : Int) (w : TW) : Prop :=
  (0 ≤ x4 ∧ x4 < 3900) ∧
  ∀ v32 : Int, v32 = (if (tA w 83 x4) = (-4) then (-4) else x5) →
  Q v32 w
def pT_node_138 (call : Nat → List ZA → TW → (ZRes → TW → Prop) → Prop) (Q : Int → TW → Prop) (x4 : Int) (x5 : Int) (x6 : Int) (w : TW) : Prop :=
  ∀ I138 : Int → Int → TW → Prop, (∀ (x5 : Int) (x6 : Int) (w : TW), (
    (x6 ≤ 0 →
      pT_node_155 call Q x4 x5 w) ∧
    (¬ (x6 ≤ 0) →
      ∀ x5_35 : Int, x5_35 = w32 (x5 + 1) →
      ∀ x6_36 : Int, x6_36 = i_shr x6 3 →
      I138 x5_35 x6_36 w)) → I138 x5 x6 w) → I138 x5 x6 w
def pT_node_0 (call : Nat → List ZA → TW → (ZRes → TW → Prop) → Prop) (Q : Int → TW → Prop) (x1 : Int) (x2 : Int) (x3 : Int) (w : TW) : Prop :=
  ((¬ ((ff_isFunction x1 w) = 0) → (0 ≤ x1 ∧ x1 < 13))) ∧
  (((ff_isFunction x1 w) = 0) ∨ (((ff_in x2 0 (w32 ((tA w 77 x1) - 1)) w) = 0) ∨ ((ff_in x3 0 4 w) = 0)) →
    pT_node_38 call Q w) ∧
  (¬ (((ff_isFunction x1 w) = 0) ∨ (((ff_in x2 0 (w32 ((tA w 77 x1) - 1)) w) = 0) ∨ ((ff_in x3 0 4 w) = 0))) →
    ∀ x4_12 : Int, x4_12 = w32 ((w32 (300 * x1)) + x2) →
    (x3 = 0 →
      (0 ≤ x4_12 ∧ x4_12 < 3900) ∧
      Q (tA w 80 x4_12) w) ∧
    (x3 = 1 →
      (0 ≤ x4_12 ∧ x4_12 < 3900) ∧
      ((¬ ((tA w 81 x4_12) = (-4)) → (0 ≤ x4_12 ∧ x4_12 < 3900))) ∧
      ∀ v21 : Int, v21 = (if (tA w 81 x4_12) = (-4) then (-4) else i_rem (tA w 81 x4_12) 16) →
      Q v21 w) ∧
    (x3 = 2 →
      (0 ≤ x4_12 ∧ x4_12 < 3900) ∧
      Q (tA w 84 x4_12) w) ∧
    (x3 = 3 →
      (0 ≤ x4_12 ∧ x4_12 < 3900) ∧
      ∀ x6_29 : Int, x6_29 = i_shr (tA w 83 x4_12) 3 →
      pT_node_138 call Q x4_12 0 x6_29 w) ∧
    (¬ x3 = 0 → ¬ x3 = 1 → ¬ x3 = 2 → ¬ x3 = 3 → 
      (0 ≤ x4_12 ∧ x4_12 < 3900) ∧
      ((¬ ((tA w 83 x4_12) = (-4)) → (0 ≤ x4_12 ∧ x4_12 < 3900))) ∧
      ∀ v14 : Int, v14 = (if (tA w 83 x4_12) = (-4) then (-4) else w32 ((i_and (tA w 83 x4_12) 7) - 1)) →
      Q v14 w))
/-! branch -/
def pT_branch_50 (call : Nat → List ZA → TW → (ZRes → TW → Prop) → Prop) (Q : Int → TW → Prop) (w : TW) : Prop :=
  Q (-1) w
def pT_branch_90 (call : Nat → List ZA → TW → (ZRes → TW → Prop) → Prop) (Q : Int → TW → Prop) (x1 : Int) (x4 : Int) (w : TW) : Prop :=
  Q (w32 (x4 - (w32 (300 * x1)))) w
def pT_branch_69 (call : Nat → List ZA → TW → (ZRes → TW → Prop) → Prop) (Q : Int → TW → Prop) (x1 : Int) (x3 : Int) (x4 : Int) (x5 : Int) (w : TW) : Prop :=
  ∀ I69 : Int → Int → TW → Prop, (∀ (x4 : Int) (x5 : Int) (w : TW), (
    (x3 ≤ x5 →
      pT_branch_90 call Q x1 x4 w) ∧
    (¬ (x3 ≤ x5) →
      (0 ≤ x4 ∧ x4 < 3900) ∧
      ∀ x4_16 : Int, x4_16 = tA w 88 x4 →
      ∀ x5_17 : Int, x5_17 = w32 (x5 + 1) →
      I69 x4_16 x5_17 w)) → I69 x4 x5 w) → I69 x4 x5 w
def pT_branch_0 (call : Nat → List ZA → TW → (ZRes → TW → Prop) → Prop) (Q : Int → TW → Prop) (x1 : Int) (x2 : Int) (x3 : Int) (w : TW) : Prop :=
  ((¬ ((ff_isFunction x1 w) = 0) → (0 ≤ x1 ∧ x1 < 13) ∧ (¬ ((ff_in x2 0 (w32 ((tA w 77 x1) - 1)) w) = 0) → (0 ≤ (w32 ((w32 (300 * x1)) + x2)) ∧ (w32 ((w32 (300 * x1)) + x2)) < 3900)))) ∧
  (((ff_isFunction x1 w) = 0) ∨ (((ff_in x2 0 (w32 ((tA w 77 x1) - 1)) w) = 0) ∨ ((ff_in x3 0 (w32 ((tA w 84 (w32 ((w32 (300 * x1)) + x2))) - 1)) w) = 0)) →
    pT_branch_50 call Q w) ∧
  (¬ (((ff_isFunction x1 w) = 0) ∨ (((ff_in x2 0 (w32 ((tA w 77 x1) - 1)) w) = 0) ∨ ((ff_in x3 0 (w32 ((tA w 84 (w32 ((w32 (300 * x1)) + x2))) - 1)) w) = 0))) →
    (0 ≤ (w32 ((w32 (300 * x1)) + x2)) ∧ (w32 ((w32 (300 * x1)) + x2)) < 3900) ∧
    ∀ x4_13 : Int, x4_13 = tA w 86 (w32 ((w32 (300 * x1)) + x2)) →
    pT_branch_69 call Q x1 x3 x4_13 0 w)
/-! missing -/
def pT_missing_69 (call : Nat → List ZA → TW → (ZRes → TW → Prop) → Prop) (Q : Int → TW → Prop) (x2 : Int) (w : TW) : Prop :=
  ∀ v8 : Int, v8 = (if ¬ (x2 = 0) then 1 else 0) →
  Q v8 w
def pT_missing_29 (call : Nat → List ZA → TW → (ZRes → TW → Prop) → Prop) (Q : Int → TW → Prop) (x2 : Int) (x3 : Int) (w : TW) : Prop :=
  ∀ I29 : Int → Int → TW → Prop, (∀ (x2 : Int) (x3 : Int) (w : TW), (
    ((tA w 77 12) ≤ x3 →
      pT_missing_69 call Q x2 w) ∧
    (¬ ((tA w 77 12) ≤ x3) →
      ((x2 = 0 → (0 ≤ (w32 (3600 + x3)) ∧ (w32 (3600 + x3)) < 3900))) ∧
      ∀ v11 : Int, v11 = (if ¬ (x2 = 0) ∨ ((tA w 80 (w32 (3600 + x3))) = 0) then 1 else 0) →
      ∀ x3_13 : Int, x3_13 = w32 (x3 + 1) →
      I29 v11 x3_13 w)) → I29 x2 x3 w) → I29 x2 x3 w
def pT_missing_0 (call : Nat → List ZA → TW → (ZRes → TW → Prop) → Prop) (Q : Int → TW → Prop) (x1 : Int) (w : TW) : Prop :=
  ((ff_isFunction x1 w) = 0 →
    Q (-1) w) ∧
  (¬ ((ff_isFunction x1 w) = 0) →
    call 45 [ai 12, ai x1, ai 0, ai 1] w (zqI (fun v5 u4 =>
      (v5 = 0 →
        Q (-3) u4) ∧
      (¬ (v5 = 0) →
        pT_missing_29 call Q 0 0 u4)) zno))
/-! unreached -/
def pT_unreached_26 (call : Nat → List ZA → TW → (ZRes → TW → Prop) → Prop) (Q : Int → TW → Prop) (w : TW) : Prop :=
  Q (-1) w
def pT_unreached_96 (call : Nat → List ZA → TW → (ZRes → TW → Prop) → Prop) (Q : Int → TW → Prop) (x3 : Int) (w : TW) : Prop :=
  ∀ v12 : Int, v12 = (if ¬ (x3 = 0) then 1 else 0) →
  Q v12 w
def pT_unreached_48 (call : Nat → List ZA → TW → (ZRes → TW → Prop) → Prop) (Q : Int → TW → Prop) (x1 : Int) (x2 : Int) (x3 : Int) (x4 : Int) (w : TW) : Prop :=
  ∀ I48 : Int → Int → TW → Prop, (∀ (x3 : Int) (x4 : Int) (w : TW), (
    ((tA w 77 12) ≤ x4 →
      pT_unreached_96 call Q x3 w) ∧
    (¬ ((tA w 77 12) ≤ x4) →
      ((¬ (x3 = 0) → (0 ≤ (w32 (3600 + x4)) ∧ (w32 (3600 + x4)) < 3900))) ∧
      ∀ v15 : Int, v15 = (if ¬ (x3 = 0) ∧ (¬ ((tA w 81 (w32 (3600 + x4))) = (w32 ((w32 (16 * x1)) + x2)))) then 1 else 0) →
      ∀ x4_17 : Int, x4_17 = w32 (x4 + 1) →
      I48 v15 x4_17 w)) → I48 x3 x4 w) → I48 x3 x4 w
def pT_unreached_0 (call : Nat → List ZA → TW → (ZRes → TW → Prop) → Prop) (Q : Int → TW → Prop) (x1 : Int) (x2 : Int) (w : TW) : Prop :=
  ((¬ ((ff_isFunction x1 w) = 0) → (0 ≤ x1 ∧ x1 < 12))) ∧
  (((ff_isFunction x1 w) = 0) ∨ ((ff_in x2 0 (w32 ((tA w 45 x1) - 1)) w) = 0) →
    pT_unreached_26 call Q w) ∧
  (¬ (((ff_isFunction x1 w) = 0) ∨ ((ff_in x2 0 (w32 ((tA w 45 x1) - 1)) w) = 0)) →
    call 45 [ai 12, ai x1, ai 0, ai 0] w (zqI (fun v9 u8 =>
      (v9 = 0 →
        Q (-3) u8) ∧
      (¬ (v9 = 0) →
        pT_unreached_48 call Q x1 x2 1 0 u8)) zno))
/-! newValue -/
def pT_newValue_0 (call : Nat → List ZA → TW → (ZRes → TW → Prop) → Prop) (Q : Int → TW → Prop) (x1 : Int) (x2 : Int) (x3 : Int) (w : TW) : Prop :=
  ((tI w 109) = 160 →
    Q (-3) w) ∧
  (¬ ((tI w 109) = 160) →
    (0 ≤ (tI w 109) ∧ (tI w 109) < 160) ∧
    ∀ u2 : TW, u2 = sA w 110 (tI w 109) x1 →
    (0 ≤ (tI u2 109) ∧ (tI u2 109) < 160) ∧
    ∀ u4 : TW, u4 = sA u2 111 (tI u2 109) x2 →
    (0 ≤ (tI u4 109) ∧ (tI u4 109) < 160) ∧
    ∀ u6 : TW, u6 = sA u4 112 (tI u4 109) x3 →
    (0 ≤ (tI u6 109) ∧ (tI u6 109) < 160) ∧
    ∀ u8 : TW, u8 = sA u6 113 (tI u6 109) 1 →
    ∀ u10 : TW, u10 = sI u8 109 (w32 ((tI u8 109) + 1)) →
    Q (w32 ((tI u10 109) - 1)) u10)
/-! whole -/
def pT_whole_0 (call : Nat → List ZA → TW → (ZRes → TW → Prop) → Prop) (Q : Int → TW → Prop) (x1 : Int) (w : TW) : Prop :=
  call 79 [ai 0, ai x1, al 0] w (zqI (fun v2 u1 =>
    Q v2 u1) zno)
/-! truth -/
def pT_truth_0 (call : Nat → List ZA → TW → (ZRes → TW → Prop) → Prop) (Q : Int → TW → Prop) (x1 : Int) (w : TW) : Prop :=
  ∀ v1 : Int, v1 = (if ¬ (x1 = 0) then 1 else 0) →
  call 79 [ai 1, ai v1, al 0] w (zqI (fun v3 u2 =>
    Q v3 u2) zno)
/-! letters -/
def pT_letters_92 (call : Nat → List ZA → TW → (ZRes → TW → Prop) → Prop) (Q : Int → TW → Prop) (s0 : Int) (w : TW) : Prop :=
  Q s0 w
def pT_letters_76 (call : Nat → List ZA → TW → (ZRes → TW → Prop) → Prop) (Q : Int → TW → Prop) (x1 : Int) (x3 : Int) (x4 : Int) (w : TW) : Prop :=
  (x4 = 0 →
    pT_letters_92 call Q (-1) w) ∧
  (¬ (x4 = 0) →
    call 79 [ai 2, ai x3, al x1] w (zqI (fun v4 u3 =>
      pT_letters_92 call Q v4 u3) zno))
def pT_letters_9 (call : Nat → List ZA → TW → (ZRes → TW → Prop) → Prop) (Q : Int → TW → Prop) (x1 : Int) (x3 : Int) (x4 : Int) (x5 : Int) (w : TW) : Prop :=
  ∀ I9 : Int → Int → Int → TW → Prop, (∀ (x3 : Int) (x4 : Int) (x5 : Int) (w : TW), (
    (x5 < 0 →
      pT_letters_76 call Q x1 x3 x4 w) ∧
    (¬ (x5 < 0) →
      ∀ x6_5 : Int, x6_5 = w32 (l_and (l_shr x1 (w32 (8 * x5))) 255) →
      ∀ v10 : Int, v10 = (if ¬ (x4 = 0) ∧ (¬ ((ff_isSmall x6_5 w) = 0) ∨ ((x6_5 = 0) ∧ (x3 = 0))) then 1 else 0) →
      ∀ v11 : Int, v11 = (if ¬ (x6_5 = 0) then 1 else 0) →
      ∀ x3_12 : Int, x3_12 = w32 (x3 + v11) →
      ∀ x5_13 : Int, x5_13 = w32 (x5 + (-1)) →
      I9 x3_12 v10 x5_13 w)) → I9 x3 x4 x5 w) → I9 x3 x4 x5 w
def pT_letters_0 (call : Nat → List ZA → TW → (ZRes → TW → Prop) → Prop) (Q : Int → TW → Prop) (x1 : Int) (w : TW) : Prop :=
  pT_letters_9 call Q x1 0 1 7 w
/-! nothing -/
def pT_nothing_0 (call : Nat → List ZA → TW → (ZRes → TW → Prop) → Prop) (Q : Int → TW → Prop) (w : TW) : Prop :=
  call 79 [ai 3, ai (-4), al 0] w (zqI (fun v2 u1 =>
    Q v2 u1) zno)
/-! isValue -/
noncomputable def ff_isValue (x1 : Int) (w : TW) : Int := ff_in x1 0 (w32 ((tI w 109) - 1)) w
theorem fr_isValue {x1 : Int} {w : TW} (hw : tok w) (rx1 : zr x1) : zr (ff_isValue x1 w) := by unfold ff_isValue; exact (fr_in hw (zrl_i rx1) (zrl_k 0 (by decide) (by decide)) (zrl_i (w32_r _)))
theorem fb_isValue (x1 : Int) (w : TW) : ff_isValue x1 w = 0 ∨ ff_isValue x1 w = 1 := by unfold ff_isValue; exact (fb_in _ _ _ _)
def pT_isValue_0 (call : Nat → List ZA → TW → (ZRes → TW → Prop) → Prop) (Q : Int → TW → Prop) (x1 : Int) (w : TW) : Prop :=
  Q (ff_in x1 0 (w32 ((tI w 109) - 1)) w) w
/-! isOfSort -/
def pT_isOfSort_62 (call : Nat → List ZA → TW → (ZRes → TW → Prop) → Prop) (Q : Int → TW → Prop) (s0 : Int) (w : TW) : Prop :=
  (s0 = 0 ∨ s0 = 1) ∧
  Q s0 w
def pT_isOfSort_57 (call : Nat → List ZA → TW → (ZRes → TW → Prop) → Prop) (Q : Int → TW → Prop) (w : TW) : Prop :=
  pT_isOfSort_62 call Q 1 w
def pT_isOfSort_61 (call : Nat → List ZA → TW → (ZRes → TW → Prop) → Prop) (Q : Int → TW → Prop) (w : TW) : Prop :=
  pT_isOfSort_62 call Q 0 w
def pT_isOfSort_0 (call : Nat → List ZA → TW → (ZRes → TW → Prop) → Prop) (Q : Int → TW → Prop) (x1 : Int) (x2 : Int) (w : TW) : Prop :=
  (3 ≤ x2 →
    (0 ≤ x1 ∧ x1 < 160) ∧
    ((tA w 110 x1) = 3 →
      pT_isOfSort_57 call Q w) ∧
    (¬ ((tA w 110 x1) = 3) →
      (0 ≤ x1 ∧ x1 < 160) ∧
      ((tA w 110 x1) = 4 →
        (0 ≤ x1 ∧ x1 < 160) ∧
        call 26 [ai (tA w 111 x1), ai (w32 (x2 - 3))] w (zqI (fun v8 u7 =>
          (v8 = 0 →
            pT_isOfSort_61 call Q u7) ∧
          (¬ (v8 = 0) →
            pT_isOfSort_57 call Q u7)) zno)) ∧
      (¬ ((tA w 110 x1) = 4) →
        pT_isOfSort_61 call Q w))) ∧
  (¬ (3 ≤ x2) →
    (0 ≤ x1 ∧ x1 < 160) ∧
    ∀ v11 : Int, v11 = (if (tA w 110 x1) = x2 then 1 else 0) →
    Q v11 w)
/-! make -/
def pT_make_16 (call : Nat → List ZA → TW → (ZRes → TW → Prop) → Prop) (Q : Int → TW → Prop) (w : TW) : Prop :=
  Q (-1) w
def pT_make_135 (call : Nat → List ZA → TW → (ZRes → TW → Prop) → Prop) (Q : Int → TW → Prop) (w : TW) : Prop :=
  Q (-3) w
def pT_make_220 (call : Nat → List ZA → TW → (ZRes → TW → Prop) → Prop) (Q : Int → TW → Prop) (x7 : Int) (w : TW) : Prop :=
  Q x7 w
def pT_make_159 (call : Nat → List ZA → TW → (ZRes → TW → Prop) → Prop) (Q : Int → TW → Prop) (x1 : Int) (x2 : Int) (x3 : Int) (x4 : Int) (x5 : Int) (x7 : Int) (x8 : Int) (w : TW) : Prop :=
  ∀ I159 : Int → TW → Prop, (∀ (x8 : Int) (w : TW), (
    (0 ≤ x1 ∧ x1 < 24) ∧
    ((tA w 14 x1) ≤ x8 →
      pT_make_220 call Q x7 w) ∧
    (¬ ((tA w 14 x1) ≤ x8) →
      ∀ v15 : Int, v15 = (if x8 = 0 then x2 else (if x8 = 1 then x3 else (if x8 = 2 then x4 else x5))) →
      (0 ≤ (w32 ((w32 (4 * x7)) + x8)) ∧ (w32 ((w32 (4 * x7)) + x8)) < 640) ∧
      ∀ u16 : TW, u16 = sA w 114 (w32 ((w32 (4 * x7)) + x8)) v15 →
      ∀ x8_18 : Int, x8_18 = w32 (x8 + 1) →
      I159 x8_18 u16)) → I159 x8 w) → I159 x8 w
def pT_make_118 (call : Nat → List ZA → TW → (ZRes → TW → Prop) → Prop) (Q : Int → TW → Prop) (x1 : Int) (x2 : Int) (x3 : Int) (x4 : Int) (x5 : Int) (x6 : Int) (w : TW) : Prop :=
  (((tI w 109) = 160) ∨ (¬ (x6 ≤ 60)) →
    pT_make_135 call Q w) ∧
  (¬ (((tI w 109) = 160) ∨ (¬ (x6 ≤ 60))) →
    call 79 [ai 4, ai x1, al 0] w (zqI (fun v10 u9 =>
      (0 ≤ v10 ∧ v10 < 160) ∧
      ∀ u11 : TW, u11 = sA u9 113 v10 x6 →
      pT_make_159 call Q x1 x2 x3 x4 x5 v10 0 u11) zno))
def pT_make_98 (call : Nat → List ZA → TW → (ZRes → TW → Prop) → Prop) (Q : Int → TW → Prop) (w : TW) : Prop :=
  Q (-1) w
def pT_make_24 (call : Nat → List ZA → TW → (ZRes → TW → Prop) → Prop) (Q : Int → TW → Prop) (x1 : Int) (x2 : Int) (x3 : Int) (x4 : Int) (x5 : Int) (x6 : Int) (x7 : Int) (w : TW) : Prop :=
  ∀ I24 : Int → Int → TW → Prop, (∀ (x6 : Int) (x7 : Int) (w : TW), (
    (0 ≤ x1 ∧ x1 < 24) ∧
    ((tA w 14 x1) ≤ x7 →
      pT_make_118 call Q x1 x2 x3 x4 x5 x6 w) ∧
    (¬ ((tA w 14 x1) ≤ x7) →
      ∀ v28 : Int, v28 = (if x7 = 0 then x2 else (if x7 = 1 then x3 else (if x7 = 2 then x4 else x5))) →
      ((ff_isValue v28 w) = 0 →
        pT_make_98 call Q w) ∧
      (¬ ((ff_isValue v28 w) = 0) →
        (0 ≤ (w32 ((w32 (4 * x1)) + x7)) ∧ (w32 ((w32 (4 * x1)) + x7)) < 96) ∧
        call 85 [ai v28, ai (tA w 15 (w32 ((w32 (4 * x1)) + x7)))] w (zqI (fun v34 u33 =>
          (v34 = 0 →
            pT_make_98 call Q u33) ∧
          (¬ (v34 = 0) →
            (0 ≤ v28 ∧ v28 < 160) ∧
            ∀ x6_37 : Int, x6_37 = w32 (x6 + (tA u33 113 v28)) →
            ∀ x7_38 : Int, x7_38 = w32 (x7 + 1) →
            I24 x6_37 x7_38 u33)) zno)))) → I24 x6 x7 w) → I24 x6 x7 w
def pT_make_0 (call : Nat → List ZA → TW → (ZRes → TW → Prop) → Prop) (Q : Int → TW → Prop) (x1 : Int) (x2 : Int) (x3 : Int) (x4 : Int) (x5 : Int) (w : TW) : Prop :=
  ((ff_isKind x1 w) = 0 →
    pT_make_16 call Q w) ∧
  (¬ ((ff_isKind x1 w) = 0) →
    call 16 [ai x1] w (zqI (fun v5 u4 =>
      (v5 = 0 →
        pT_make_24 call Q x1 x2 x3 x4 x5 1 0 u4) ∧
      (¬ (v5 = 0) →
        pT_make_16 call Q u4)) zno))
/-! value -/
def pT_value_20 (call : Nat → List ZA → TW → (ZRes → TW → Prop) → Prop) (Q : Int → TW → Prop) (w : TW) : Prop :=
  Q (-4) w
def pT_value_0 (call : Nat → List ZA → TW → (ZRes → TW → Prop) → Prop) (Q : Int → TW → Prop) (x1 : Int) (x2 : Int) (w : TW) : Prop :=
  (((ff_isValue x1 w) = 0) ∨ ((ff_in x2 0 6 w) = 0) →
    pT_value_20 call Q w) ∧
  (¬ (((ff_isValue x1 w) = 0) ∨ ((ff_in x2 0 6 w) = 0)) →
    (x2 = 0 →
      (0 ≤ x1 ∧ x1 < 160) ∧
      Q (tA w 110 x1) w) ∧
    (x2 = 1 →
      (0 ≤ x1 ∧ x1 < 160) ∧
      Q (tA w 111 x1) w) ∧
    (x2 = 2 →
      (0 ≤ x1 ∧ x1 < 160) ∧
      Q (tA w 113 x1) w) ∧
    (¬ x2 = 0 → ¬ x2 = 1 → ¬ x2 = 2 → 
      (0 ≤ x1 ∧ x1 < 160) ∧
      (((tA w 110 x1) = 4 → (0 ≤ x1 ∧ x1 < 160) ∧ (0 ≤ (tA w 111 x1) ∧ (tA w 111 x1) < 24) ∧ (¬ ((tA w 14 (tA w 111 x1)) ≤ (w32 (x2 - 3))) → (0 ≤ (w32 ((w32 ((w32 (4 * x1)) + x2)) - 3)) ∧ (w32 ((w32 ((w32 (4 * x1)) + x2)) - 3)) < 640)))) ∧
      ∀ v8 : Int, v8 = (if ((tA w 110 x1) = 4) ∧ (¬ ((tA w 14 (tA w 111 x1)) ≤ (w32 (x2 - 3)))) then tA w 114 (w32 ((w32 ((w32 (4 * x1)) + x2)) - 3)) else (-4)) →
      Q v8 w))
/-! alike -/
def pT_alike_16 (call : Nat → List ZA → TW → (ZRes → TW → Prop) → Prop) (Q : Int → TW → Prop) (w : TW) : Prop :=
  Q (-1) w
def pT_alike_207 (call : Nat → List ZA → TW → (ZRes → TW → Prop) → Prop) (Q : Int → TW → Prop) (w : TW) : Prop :=
  Q 1 w
def pT_alike_126 (call : Nat → List ZA → TW → (ZRes → TW → Prop) → Prop) (Q : Int → TW → Prop) (w : TW) : Prop :=
  Q 0 w
def pT_alike_204 (call : Nat → List ZA → TW → (ZRes → TW → Prop) → Prop) (Q : Int → TW → Prop) (I34 : Int → TW → Prop) (x3 : Int) (w : TW) : Prop :=
  I34 x3 w
def pT_alike_131 (call : Nat → List ZA → TW → (ZRes → TW → Prop) → Prop) (Q : Int → TW → Prop) (I34 : Int → TW → Prop) (x3 : Int) (x4 : Int) (x5 : Int) (x6 : Int) (w : TW) : Prop :=
  ∀ I131 : Int → Int → TW → Prop, (∀ (x3 : Int) (x6 : Int) (w : TW), (
    (0 ≤ x4 ∧ x4 < 160) ∧
    (((tA w 110 x4) = 4 → (0 ≤ x4 ∧ x4 < 160) ∧ (0 ≤ (tA w 111 x4) ∧ (tA w 111 x4) < 24))) ∧
    (((tA w 110 x4) = 4) ∧ (¬ ((tA w 14 (tA w 111 x4)) ≤ x6)) →
      (0 ≤ (w32 ((w32 (4 * x4)) + x6)) ∧ (w32 ((w32 (4 * x4)) + x6)) < 640) ∧
      (0 ≤ x3 ∧ x3 < 300) ∧
      ∀ u21 : TW, u21 = sA w 115 x3 (tA w 114 (w32 ((w32 (4 * x4)) + x6))) →
      (0 ≤ (w32 ((w32 (4 * x5)) + x6)) ∧ (w32 ((w32 (4 * x5)) + x6)) < 640) ∧
      (0 ≤ x3 ∧ x3 < 300) ∧
      ∀ u24 : TW, u24 = sA u21 116 x3 (tA u21 114 (w32 ((w32 (4 * x5)) + x6))) →
      ∀ x3_26 : Int, x3_26 = w32 (x3 + 1) →
      ∀ x6_27 : Int, x6_27 = w32 (x6 + 1) →
      I131 x3_26 x6_27 u24) ∧
    (¬ (((tA w 110 x4) = 4) ∧ (¬ ((tA w 14 (tA w 111 x4)) ≤ x6))) →
      pT_alike_204 call Q I34 x3 w)) → I131 x3 x6 w) → I131 x3 x6 w
def pT_alike_34 (call : Nat → List ZA → TW → (ZRes → TW → Prop) → Prop) (Q : Int → TW → Prop) (x3 : Int) (w : TW) : Prop :=
  ∀ I34 : Int → TW → Prop, (∀ (x3 : Int) (w : TW), (
    (x3 ≤ 0 →
      pT_alike_207 call Q w) ∧
    (¬ (x3 ≤ 0) →
      ∀ x3_10 : Int, x3_10 = w32 (x3 + (-1)) →
      (0 ≤ x3_10 ∧ x3_10 < 300) ∧
      ∀ x4_12 : Int, x4_12 = tA w 115 x3_10 →
      (0 ≤ x3_10 ∧ x3_10 < 300) ∧
      ∀ x5_14 : Int, x5_14 = tA w 116 x3_10 →
      (0 ≤ x4_12 ∧ x4_12 < 160) ∧
      (0 ≤ x5_14 ∧ x5_14 < 160) ∧
      (((tA w 110 x4_12) = (tA w 110 x5_14) → (0 ≤ x4_12 ∧ x4_12 < 160) ∧ (0 ≤ x5_14 ∧ x5_14 < 160) ∧ ((tA w 111 x4_12) = (tA w 111 x5_14) → (0 ≤ x4_12 ∧ x4_12 < 160) ∧ (0 ≤ x5_14 ∧ x5_14 < 160) ∧ ((tA w 112 x4_12) = (tA w 112 x5_14) → (0 ≤ x4_12 ∧ x4_12 < 160) ∧ (0 ≤ x5_14 ∧ x5_14 < 160))))) ∧
      (¬ ((tA w 110 x4_12) = (tA w 110 x5_14)) ∨ (¬ ((tA w 111 x4_12) = (tA w 111 x5_14)) ∨ (¬ ((tA w 112 x4_12) = (tA w 112 x5_14)) ∨ (¬ ((tA w 113 x4_12) = (tA w 113 x5_14))))) →
        pT_alike_126 call Q w) ∧
      (¬ (¬ ((tA w 110 x4_12) = (tA w 110 x5_14)) ∨ (¬ ((tA w 111 x4_12) = (tA w 111 x5_14)) ∨ (¬ ((tA w 112 x4_12) = (tA w 112 x5_14)) ∨ (¬ ((tA w 113 x4_12) = (tA w 113 x5_14)))))) →
        pT_alike_131 call Q I34 x3_10 x4_12 x5_14 0 w))) → I34 x3 w) → I34 x3 w
def pT_alike_0 (call : Nat → List ZA → TW → (ZRes → TW → Prop) → Prop) (Q : Int → TW → Prop) (x1 : Int) (x2 : Int) (w : TW) : Prop :=
  (((ff_isValue x1 w) = 0) ∨ ((ff_isValue x2 w) = 0) →
    pT_alike_16 call Q w) ∧
  (¬ (((ff_isValue x1 w) = 0) ∨ ((ff_isValue x2 w) = 0)) →
    ∀ u7 : TW, u7 = sA w 115 0 x1 →
    ∀ u8 : TW, u8 = sA u7 116 0 x2 →
    pT_alike_34 call Q 1 u8)
/-! fitsHere -/
def pT_fitsHere_169 (call : Nat → List ZA → TW → (ZRes → TW → Prop) → Prop) (Q : Int → TW → Prop) (s0 : Int) (w : TW) : Prop :=
  (s0 = 0 ∨ s0 = 1) ∧
  Q s0 w
def pT_fitsHere_168 (call : Nat → List ZA → TW → (ZRes → TW → Prop) → Prop) (Q : Int → TW → Prop) (w : TW) : Prop :=
  pT_fitsHere_169 call Q 0 w
def pT_fitsHere_0 (call : Nat → List ZA → TW → (ZRes → TW → Prop) → Prop) (Q : Int → TW → Prop) (x1 : Int) (x2 : Int) (w : TW) : Prop :=
  (0 ≤ x1 ∧ x1 < 1700) ∧
  ((tA w 17 x1) = 1 →
    (0 ≤ x2 ∧ x2 < 160) ∧
    (0 ≤ x1 ∧ x1 < 1700) ∧
    ((¬ ((tA w 111 x2) < (tA w 19 x1)) → (0 ≤ x2 ∧ x2 < 160) ∧ (0 ≤ x1 ∧ x1 < 1700))) ∧
    ∀ v4 : Int, v4 = (if ¬ ((tA w 111 x2) < (tA w 19 x1)) ∧ (¬ ((tA w 20 x1) < (tA w 111 x2))) then 1 else 0) →
    Q v4 w) ∧
  ((tA w 17 x1) = 2 →
    (0 ≤ x2 ∧ x2 < 160) ∧
    (0 ≤ x1 ∧ x1 < 1700) ∧
    ∀ v12 : Int, v12 = (if (tA w 111 x2) = (tA w 19 x1) then 1 else 0) →
    Q v12 w) ∧
  ((tA w 17 x1) = 3 →
    (0 ≤ x2 ∧ x2 < 160) ∧
    (0 ≤ x1 ∧ x1 < 1700) ∧
    ∀ v18 : Int, v18 = (if (tA w 112 x2) = (tA w 21 x1) then 1 else 0) →
    Q v18 w) ∧
  ((tA w 17 x1) = 4 →
    (0 ≤ x2 ∧ x2 < 160) ∧
    ∀ v23 : Int, v23 = (if (tA w 110 x2) = 3 then 1 else 0) →
    Q v23 w) ∧
  ((tA w 17 x1) = 5 →
    (0 ≤ x2 ∧ x2 < 160) ∧
    ((tA w 110 x2) = 4 →
      (0 ≤ x2 ∧ x2 < 160) ∧
      (0 ≤ x1 ∧ x1 < 1700) ∧
      call 26 [ai (tA w 111 x2), ai (tA w 19 x1)] w (zqI (fun v32 u31 =>
        (v32 = 0 →
          pT_fitsHere_168 call Q u31) ∧
        (¬ (v32 = 0) →
          pT_fitsHere_169 call Q 1 u31)) zno)) ∧
    (¬ ((tA w 110 x2) = 4) →
      pT_fitsHere_168 call Q w)) ∧
  (¬ (tA w 17 x1) = 1 → ¬ (tA w 17 x1) = 2 → ¬ (tA w 17 x1) = 3 → ¬ (tA w 17 x1) = 4 → ¬ (tA w 17 x1) = 5 → 
    Q 1 w)
/-! binds0 -/
def pT_binds0_114 (call : Nat → List ZA → TW → (ZRes → TW → Prop) → Prop) (Q : Int → TW → Prop) (w : TW) : Prop :=
  Q 1 w
def pT_binds0_111 (call : Nat → List ZA → TW → (ZRes → TW → Prop) → Prop) (Q : Int → TW → Prop) (I18 : TW → Prop) (w : TW) : Prop :=
  I18 w
def pT_binds0_51 (call : Nat → List ZA → TW → (ZRes → TW → Prop) → Prop) (Q : Int → TW → Prop) (w : TW) : Prop :=
  Q 0 w
def pT_binds0_18 (call : Nat → List ZA → TW → (ZRes → TW → Prop) → Prop) (Q : Int → TW → Prop) (w : TW) : Prop :=
  ∀ I18 : TW → Prop, (∀ (w : TW), (
    ((tI w 71) ≤ 0 →
      pT_binds0_114 call Q w) ∧
    (¬ ((tI w 71) ≤ 0) →
      call 50 [] w (zqI (fun v6 u5 =>
        (0 ≤ (tI u5 71) ∧ (tI u5 71) < 2000) ∧
        ∀ x4_8 : Int, x4_8 = tA u5 75 (tI u5 71) →
        call 92 [ai v6, ai x4_8] u5 (zqI (fun v10 u9 =>
          (v10 = 0 →
            pT_binds0_51 call Q u9) ∧
          (¬ (v10 = 0) →
            call 51 [ai v6, ai x4_8] u9 (zqV (fun u12 =>
              (0 ≤ v6 ∧ v6 < 1700) ∧
              (((tA u12 17 v6) = 5 → (0 ≤ v6 ∧ v6 < 1700))) ∧
              (((tA u12 17 v6) = 5) ∧ (¬ ((tA u12 22 v6) = (-4))) →
                (0 ≤ v6 ∧ v6 < 1700) ∧
                (0 ≤ (tI u12 71) ∧ (tI u12 71) < 2000) ∧
                (0 ≤ (tI u12 71) ∧ (tI u12 71) < 2000) ∧
                call 48 [ai (tA u12 22 v6), ai (tA u12 73 (tI u12 71)), ai (tA u12 74 (tI u12 71)), ai x4_8] u12 (zqV (fun u18 =>
                  pT_binds0_111 call Q I18 u18) zno)) ∧
              (¬ (((tA u12 17 v6) = 5) ∧ (¬ ((tA u12 22 v6) = (-4)))) →
                pT_binds0_111 call Q I18 u12)) zno))) zno)) zno))) → I18 w) → I18 w
def pT_binds0_0 (call : Nat → List ZA → TW → (ZRes → TW → Prop) → Prop) (Q : Int → TW → Prop) (x1 : Int) (x2 : Int) (w : TW) : Prop :=
  ∀ u1 : TW, u1 = sI w 71 0 →
  (0 ≤ x1 ∧ x1 < 192) ∧
  call 48 [ai (tA u1 47 x1), ai x2, ai 0, ai 0] u1 (zqV (fun u3 =>
    pT_binds0_18 call Q u3) zno)
/-! term -/
noncomputable def ff_term (x1 : Int) (w : TW) : Int := ((if (tA w 50 x1) = 2 then tA w 111 (tA w 118 (tA w 51 x1)) else tA w 51 x1))
def fo_term (x1 : Int) (w : TW) : Prop := (0 ≤ x1 ∧ x1 < 768) ∧ (((tA w 50 x1) = 2 → (0 ≤ x1 ∧ x1 < 768) ∧ (0 ≤ (tA w 51 x1) ∧ (tA w 51 x1) < 8) ∧ (0 ≤ (tA w 118 (tA w 51 x1)) ∧ (tA w 118 (tA w 51 x1)) < 160)) ∧ (¬ ((tA w 50 x1) = 2) → (0 ≤ x1 ∧ x1 < 768)))
theorem fr_term {x1 : Int} {w : TW} (hw : tok w) (rx1 : zr x1) : zr (ff_term x1 w) := by unfold ff_term; exact ((zr_ite (hw.a 111 _ (by decide)) (hw.a 51 _ (by decide))))
def pT_term_0 (call : Nat → List ZA → TW → (ZRes → TW → Prop) → Prop) (Q : Int → TW → Prop) (x1 : Int) (w : TW) : Prop :=
  (0 ≤ x1 ∧ x1 < 768) ∧
  (((tA w 50 x1) = 2 → (0 ≤ x1 ∧ x1 < 768) ∧ (0 ≤ (tA w 51 x1) ∧ (tA w 51 x1) < 8) ∧ (0 ≤ (tA w 118 (tA w 51 x1)) ∧ (tA w 118 (tA w 51 x1)) < 160)) ∧ (¬ ((tA w 50 x1) = 2) → (0 ≤ x1 ∧ x1 < 768))) ∧
  ∀ v2 : Int, v2 = (if (tA w 50 x1) = 2 then tA w 111 (tA w 118 (tA w 51 x1)) else tA w 51 x1) →
  Q v2 w
/-! isThrown -/
noncomputable def ff_isThrown (x1 : Int) (x2 : Int) (w : TW) : Int := ((if (((tA w 52 (w32 ((w32 (2 * x1)) + x2))) = 47) ∧ ((ff_term (w32 ((w32 ((w32 (4 * x1)) + (w32 (2 * x2)))) + 1)) w) = 0)) ∨ (¬ ((tA w 52 (w32 ((w32 (2 * x1)) + x2))) = 47) ∧ (((tA w 52 (w32 ((w32 (2 * x1)) + x2))) = 37) ∧ ((ff_term (w32 ((w32 ((w32 (4 * x1)) + (w32 (2 * x2)))) + 1)) w) = 0))) then 1 else 0))
def fo_isThrown (x1 : Int) (x2 : Int) (w : TW) : Prop := (0 ≤ (w32 ((w32 (2 * x1)) + x2)) ∧ (w32 ((w32 (2 * x1)) + x2)) < 384) ∧ (((tA w 52 (w32 ((w32 (2 * x1)) + x2))) = 47 → (fo_term (w32 ((w32 ((w32 (4 * x1)) + (w32 (2 * x2)))) + 1)) w)) ∧ (¬ ((tA w 52 (w32 ((w32 (2 * x1)) + x2))) = 47) → ((tA w 52 (w32 ((w32 (2 * x1)) + x2))) = 37 → (fo_term (w32 ((w32 ((w32 (4 * x1)) + (w32 (2 * x2)))) + 1)) w))))
theorem fr_isThrown {x1 : Int} {x2 : Int} {w : TW} (hw : tok w) (rx1 : zr x1) (rx2 : zr x2) : zr (ff_isThrown x1 x2 w) := by unfold ff_isThrown; exact ((zr_ite (zr_k 1 (by decide) (by decide)) (zr_k 0 (by decide) (by decide))))
theorem fb_isThrown (x1 : Int) (x2 : Int) (w : TW) : ff_isThrown x1 x2 w = 0 ∨ ff_isThrown x1 x2 w = 1 := by unfold ff_isThrown; exact ((zb_ite (Or.inr rfl) (Or.inl rfl)))
def pT_isThrown_0 (call : Nat → List ZA → TW → (ZRes → TW → Prop) → Prop) (Q : Int → TW → Prop) (x1 : Int) (x2 : Int) (w : TW) : Prop :=
  (0 ≤ (w32 ((w32 (2 * x1)) + x2)) ∧ (w32 ((w32 (2 * x1)) + x2)) < 384) ∧
  ∀ x3_2 : Int, x3_2 = tA w 52 (w32 ((w32 (2 * x1)) + x2)) →
  ((x3_2 = 47 → (fo_term (w32 ((w32 ((w32 (4 * x1)) + (w32 (2 * x2)))) + 1)) w)) ∧ (¬ (x3_2 = 47) → (x3_2 = 37 → (fo_term (w32 ((w32 ((w32 (4 * x1)) + (w32 (2 * x2)))) + 1)) w)))) ∧
  ∀ v7 : Int, v7 = (if ((x3_2 = 47) ∧ ((ff_term (w32 ((w32 ((w32 (4 * x1)) + (w32 (2 * x2)))) + 1)) w) = 0)) ∨ (¬ (x3_2 = 47) ∧ ((x3_2 = 37) ∧ ((ff_term (w32 ((w32 ((w32 (4 * x1)) + (w32 (2 * x2)))) + 1)) w) = 0))) then 1 else 0) →
  Q v7 w
/-! sum -/
def pT_sum_0 (call : Nat → List ZA → TW → (ZRes → TW → Prop) → Prop) (Q : Int → TW → Prop) (x1 : Int) (x2 : Int) (w : TW) : Prop :=
  (fo_term (w32 ((w32 (4 * x1)) + (w32 (2 * x2)))) w) ∧
  ∀ x3_4 : Int, x3_4 = ff_term (w32 ((w32 (4 * x1)) + (w32 (2 * x2)))) w →
  (0 ≤ (w32 ((w32 (2 * x1)) + x2)) ∧ (w32 ((w32 (2 * x1)) + x2)) < 384) ∧
  ∀ x4_6 : Int, x4_6 = tA w 52 (w32 ((w32 (2 * x1)) + x2)) →
  (x4_6 = 0 →
    Q x3_4 w) ∧
  (¬ (x4_6 = 0) →
    (fo_term (w32 ((w32 ((w32 (4 * x1)) + (w32 (2 * x2)))) + 1)) w) ∧
    ∀ x5_13 : Int, x5_13 = ff_term (w32 ((w32 ((w32 (4 * x1)) + (w32 (2 * x2)))) + 1)) w →
    ((¬ (x4_6 = 43) → (¬ (x4_6 = 45) → (¬ (x4_6 = 42) → (x4_6 = 47 → (¬ x5_13 = 0)) ∧ (¬ (x4_6 = 47) → (¬ x5_13 = 0)))))) ∧
    ∀ v14 : Int, v14 = (if x4_6 = 43 then w32 (x3_4 + x5_13) else (if x4_6 = 45 then w32 (x3_4 - x5_13) else (if x4_6 = 42 then w32 (x3_4 * x5_13) else (if x4_6 = 47 then i_div x3_4 x5_13 else i_rem x3_4 x5_13)))) →
    Q v14 w)
/-! guarded -/
def pT_guarded_58 (call : Nat → List ZA → TW → (ZRes → TW → Prop) → Prop) (Q : Int → TW → Prop) (w : TW) : Prop :=
  Q 2 w
def pT_guarded_122 (call : Nat → List ZA → TW → (ZRes → TW → Prop) → Prop) (Q : Int → TW → Prop) (s0 : Int) (w : TW) : Prop :=
  Q s0 w
def pT_guarded_121 (call : Nat → List ZA → TW → (ZRes → TW → Prop) → Prop) (Q : Int → TW → Prop) (w : TW) : Prop :=
  pT_guarded_122 call Q 0 w
def pT_guarded_117 (call : Nat → List ZA → TW → (ZRes → TW → Prop) → Prop) (Q : Int → TW → Prop) (w : TW) : Prop :=
  pT_guarded_122 call Q 1 w
def pT_guarded_30 (call : Nat → List ZA → TW → (ZRes → TW → Prop) → Prop) (Q : Int → TW → Prop) (x1 : Int) (w : TW) : Prop :=
  ∀ u2 : TW, u2 = sI w 123 (w32 ((tI w 123) + 1)) →
  (fo_isThrown x1 0 u2) ∧
  (((ff_isThrown x1 0 u2) = 0 → (fo_isThrown x1 1 u2))) ∧
  (¬ ((ff_isThrown x1 0 u2) = 0) ∨ (¬ ((ff_isThrown x1 1 u2) = 0)) →
    pT_guarded_58 call Q u2) ∧
  (¬ (¬ ((ff_isThrown x1 0 u2) = 0) ∨ (¬ ((ff_isThrown x1 1 u2) = 0))) →
    call 96 [ai x1, ai 0] u2 (zqI (fun v12 u11 =>
      call 96 [ai x1, ai 1] u11 (zqI (fun v14 u13 =>
        (0 ≤ x1 ∧ x1 < 192) ∧
        ∀ x4_16 : Int, x4_16 = tA u13 53 x1 →
        (x4_16 = 60 →
          (v14 ≤ v12 →
            pT_guarded_121 call Q u13) ∧
          (¬ (v14 ≤ v12) →
            pT_guarded_117 call Q u13)) ∧
        (¬ (x4_16 = 60) →
          (x4_16 = 62 →
            (v12 ≤ v14 →
              pT_guarded_121 call Q u13) ∧
            (¬ (v12 ≤ v14) →
              pT_guarded_117 call Q u13)) ∧
          (¬ (x4_16 = 62) →
            (v12 = v14 →
              pT_guarded_117 call Q u13) ∧
            (¬ (v12 = v14) →
              pT_guarded_121 call Q u13)))) zno)) zno))
def pT_guarded_0 (call : Nat → List ZA → TW → (ZRes → TW → Prop) → Prop) (Q : Int → TW → Prop) (x1 : Int) (w : TW) : Prop :=
  (32 ≤ (tI w 123) →
    pT_guarded_30 call Q x1 w) ∧
  (¬ (32 ≤ (tI w 123)) →
    (0 ≤ (tI w 123) ∧ (tI w 123) < 32) ∧
    ∀ u27 : TW, u27 = sA w 127 (tI w 123) (w32 ((w32 (100 * (i_div x1 16))) + (i_rem x1 16))) →
    pT_guarded_30 call Q x1 u27)
/-! standing -/
def pT_standing_67 (call : Nat → List ZA → TW → (ZRes → TW → Prop) → Prop) (Q : Int → TW → Prop) (x4 : Int) (w : TW) : Prop :=
  Q x4 w
def pT_standing_35 (call : Nat → List ZA → TW → (ZRes → TW → Prop) → Prop) (Q : Int → TW → Prop) (x1 : Int) (x4 : Int) (x5 : Int) (w : TW) : Prop :=
  ∀ I35 : Int → Int → TW → Prop, (∀ (x4 : Int) (x5 : Int) (w : TW), (
    (x5 < 0 →
      pT_standing_67 call Q x4 w) ∧
    (¬ (x5 < 0) →
      (0 ≤ (w32 ((w32 ((w32 (4 * x4)) + (i_and (i_shr x1 x5) 7))) - 1)) ∧ (w32 ((w32 ((w32 (4 * x4)) + (i_and (i_shr x1 x5) 7))) - 1)) < 640) ∧
      ∀ x4_7 : Int, x4_7 = tA w 114 (w32 ((w32 ((w32 (4 * x4)) + (i_and (i_shr x1 x5) 7))) - 1)) →
      ∀ x5_8 : Int, x5_8 = w32 (x5 + (-3)) →
      I35 x4_7 x5_8 w)) → I35 x4 x5 w) → I35 x4 x5 w
def pT_standing_20 (call : Nat → List ZA → TW → (ZRes → TW → Prop) → Prop) (Q : Int → TW → Prop) (x1 : Int) (x2 : Int) (x3 : Int) (w : TW) : Prop :=
  (0 ≤ (w32 (x2 - 1)) ∧ (w32 (x2 - 1)) < 3) ∧
  ∀ x4_3 : Int, x4_3 = tA w 117 (w32 (x2 - 1)) →
  ∀ x5_4 : Int, x5_4 = w32 (x3 - 3) →
  pT_standing_35 call Q x1 x4_3 x5_4 w
def pT_standing_4 (call : Nat → List ZA → TW → (ZRes → TW → Prop) → Prop) (Q : Int → TW → Prop) (x1 : Int) (x2 : Int) (x3 : Int) (w : TW) : Prop :=
  ∀ I4 : Int → Int → TW → Prop, (∀ (x2 : Int) (x3 : Int) (w : TW), (
    (x2 ≤ 7 →
      pT_standing_20 call Q x1 x2 x3 w) ∧
    (¬ (x2 ≤ 7) →
      ∀ x2_9 : Int, x2_9 = i_shr x2 3 →
      ∀ x3_10 : Int, x3_10 = w32 (x3 + 3) →
      I4 x2_9 x3_10 w)) → I4 x2 x3 w) → I4 x2 x3 w
def pT_standing_0 (call : Nat → List ZA → TW → (ZRes → TW → Prop) → Prop) (Q : Int → TW → Prop) (x1 : Int) (w : TW) : Prop :=
  pT_standing_4 call Q x1 x1 0 w
/-! isBranch -/
def pT_isBranch_0 (call : Nat → List ZA → TW → (ZRes → TW → Prop) → Prop) (Q : Int → TW → Prop) (x1 : Int) (x2 : Int) (x3 : Int) (w : TW) : Prop :=
  (x2 = 3 →
    (0 ≤ x3 ∧ x3 < 160) ∧
    (((tA w 110 x3) = 3 → (0 ≤ x1 ∧ x1 < 3900)) ∧ (¬ ((tA w 110 x3) = 3) → (0 ≤ x1 ∧ x1 < 3900) ∧ (0 ≤ x3 ∧ x3 < 160))) ∧
    ∀ v9 : Int, v9 = (if (tA w 110 x3) = 3 then (if (tA w 89 x1) = (-4) then 1 else 0) else (if (tA w 89 x1) = (tA w 111 x3) then 1 else 0)) →
    Q v9 w) ∧
  (x2 = 4 →
    (0 ≤ x1 ∧ x1 < 3900) ∧
    (0 ≤ x3 ∧ x3 < 160) ∧
    ∀ v18 : Int, v18 = (if (tA w 89 x1) = (tA w 111 x3) then 1 else 0) →
    Q v18 w) ∧
  (x2 = 5 →
    (0 ≤ x1 ∧ x1 < 3900) ∧
    (((tA w 92 x1) = 0 → (0 ≤ x1 ∧ x1 < 3900) ∧ (0 ≤ x3 ∧ x3 < 160))) ∧
    ∀ v23 : Int, v23 = (if ¬ ((tA w 92 x1) = 0) ∨ ((tA w 91 x1) = (tA w 112 x3)) then 1 else 0) →
    Q v23 w) ∧
  (¬ x2 = 3 → ¬ x2 = 4 → ¬ x2 = 5 → 
    (0 ≤ x3 ∧ x3 < 160) ∧
    (0 ≤ x1 ∧ x1 < 3900) ∧
    ((¬ ((tA w 111 x3) < (tA w 89 x1)) → (0 ≤ x3 ∧ x3 < 160) ∧ (0 ≤ x1 ∧ x1 < 3900))) ∧
    ∀ v3 : Int, v3 = (if ¬ ((tA w 111 x3) < (tA w 89 x1)) ∧ (¬ ((tA w 90 x1) < (tA w 111 x3))) then 1 else 0) →
    Q v3 w)
/-! byTree -/
def pT_byTree_103 (call : Nat → List ZA → TW → (ZRes → TW → Prop) → Prop) (Q : Int → TW → Prop) (x2 : Int) (x5 : Int) (w : TW) : Prop :=
  ((x5 = 1 → (0 ≤ x2 ∧ x2 < 3900))) ∧
  ∀ v14 : Int, v14 = (if x5 = 1 then tA w 81 x2 else (-4)) →
  Q v14 w
def pT_byTree_98 (call : Nat → List ZA → TW → (ZRes → TW → Prop) → Prop) (Q : Int → TW → Prop) (I6 : Int → TW → Prop) (x2 : Int) (x5 : Int) (w : TW) : Prop :=
  (x5 ≤ 0 →
    (0 ≤ x2 ∧ x2 < 3900) ∧
    ∀ x2_13 : Int, x2_13 = tA w 86 x2 →
    I6 x2_13 w) ∧
  (¬ (x5 ≤ 0) →
    pT_byTree_103 call Q x2 x5 w)
def pT_byTree_72 (call : Nat → List ZA → TW → (ZRes → TW → Prop) → Prop) (Q : Int → TW → Prop) (I6 : Int → TW → Prop) (x2 : Int) (s0 : Int) (w : TW) : Prop :=
  (s0 = 2 →
    ∀ u18 : TW, u18 = sI w 119 3 →
    (0 ≤ x2 ∧ x2 < 3900) ∧
    ∀ u20 : TW, u20 = sI u18 125 (i_rem (tA u18 81 x2) 16) →
    pT_byTree_98 call Q I6 x2 s0 u20) ∧
  (¬ (s0 = 2) →
    pT_byTree_98 call Q I6 x2 s0 w)
def pT_byTree_35 (call : Nat → List ZA → TW → (ZRes → TW → Prop) → Prop) (Q : Int → TW → Prop) (I6 : Int → TW → Prop) (x2 : Int) (x3 : Int) (w : TW) : Prop :=
  (0 ≤ x2 ∧ x2 < 3900) ∧
  (0 ≤ x2 ∧ x2 < 3900) ∧
  call 91 [ai (tA w 81 x2), ai (tA w 82 x2)] w (zqI (fun v8 u7 =>
    (x3 = 2 →
      (0 ≤ x2 ∧ x2 < 3900) ∧
      call 93 [ai (tA u7 81 x2)] u7 (zqI (fun v23 u22 =>
        pT_byTree_72 call Q I6 x2 v23 u22) zno)) ∧
    (¬ (x3 = 2) →
      pT_byTree_72 call Q I6 x2 1 u7)) zno)
def pT_byTree_193 (call : Nat → List ZA → TW → (ZRes → TW → Prop) → Prop) (Q : Int → TW → Prop) (w : TW) : Prop :=
  ∀ u32 : TW, u32 = sI w 119 2 →
  Q (-4) u32
def pT_byTree_187 (call : Nat → List ZA → TW → (ZRes → TW → Prop) → Prop) (Q : Int → TW → Prop) (I6 : Int → TW → Prop) (x2 : Int) (w : TW) : Prop :=
  (x2 = (-4) →
    pT_byTree_193 call Q w) ∧
  (¬ (x2 = (-4)) →
    I6 x2 w)
def pT_byTree_160 (call : Nat → List ZA → TW → (ZRes → TW → Prop) → Prop) (Q : Int → TW → Prop) (I6 : Int → TW → Prop) (x2 : Int) (x3 : Int) (x4 : Int) (w : TW) : Prop :=
  ∀ I160 : Int → TW → Prop, (∀ (x2 : Int) (w : TW), (
    (x2 = (-4) →
      pT_byTree_187 call Q I6 x2 w) ∧
    (¬ (x2 = (-4)) →
      call 98 [ai x2, ai x3, ai x4] w (zqI (fun v34 u33 =>
        (v34 = 0 →
          (0 ≤ x2 ∧ x2 < 3900) ∧
          ∀ x2_37 : Int, x2_37 = tA u33 88 x2 →
          I160 x2_37 u33) ∧
        (¬ (v34 = 0) →
          pT_byTree_187 call Q I6 x2 u33)) zno))) → I160 x2 w) → I160 x2 w
def pT_byTree_17 (call : Nat → List ZA → TW → (ZRes → TW → Prop) → Prop) (Q : Int → TW → Prop) (w : TW) : Prop :=
  ∀ u43 : TW, u43 = sI w 119 1 →
  Q (-4) u43
def pT_byTree_6 (call : Nat → List ZA → TW → (ZRes → TW → Prop) → Prop) (Q : Int → TW → Prop) (x2 : Int) (w : TW) : Prop :=
  ∀ I6 : Int → TW → Prop, (∀ (x2 : Int) (w : TW), (
    (0 ≤ x2 ∧ x2 < 3900) ∧
    ∀ x3_3 : Int, x3_3 = tA w 80 x2 →
    (x3_3 = 0 →
      pT_byTree_17 call Q w) ∧
    (¬ (x3_3 = 0) →
      ((x3_3 = 1) ∨ (x3_3 = 2) →
        pT_byTree_35 call Q I6 x2 x3_3 w) ∧
      (¬ ((x3_3 = 1) ∨ (x3_3 = 2)) →
        ∀ u24 : TW, u24 = sI w 122 (w32 ((tI w 122) + 1)) →
        (0 ≤ x2 ∧ x2 < 3900) ∧
        call 97 [ai (tA u24 83 x2)] u24 (zqI (fun v27 u26 =>
          (0 ≤ x2 ∧ x2 < 3900) ∧
          ∀ x2_29 : Int, x2_29 = tA u26 86 x2 →
          pT_byTree_160 call Q I6 x2_29 x3_3 v27 u26) zno)))) → I6 x2 w) → I6 x2 w
def pT_byTree_0 (call : Nat → List ZA → TW → (ZRes → TW → Prop) → Prop) (Q : Int → TW → Prop) (x1 : Int) (w : TW) : Prop :=
  ∀ x2_1 : Int, x2_1 = w32 (300 * x1) →
  pT_byTree_6 call Q x2_1 w
/-! byRules -/
def pT_byRules_116 (call : Nat → List ZA → TW → (ZRes → TW → Prop) → Prop) (Q : Int → TW → Prop) (w : TW) : Prop :=
  ∀ u4 : TW, u4 = sI w 119 1 →
  Q (-4) u4
def pT_byRules_110 (call : Nat → List ZA → TW → (ZRes → TW → Prop) → Prop) (Q : Int → TW → Prop) (I5 : Int → TW → Prop) (x1 : Int) (x2 : Int) (w : TW) : Prop :=
  ∀ x2_13 : Int, x2_13 = w32 (x2 + 1) →
  I5 x2_13 w
def pT_byRules_108 (call : Nat → List ZA → TW → (ZRes → TW → Prop) → Prop) (Q : Int → TW → Prop) (x2 : Int) (w : TW) : Prop :=
  Q x2 w
def pT_byRules_86 (call : Nat → List ZA → TW → (ZRes → TW → Prop) → Prop) (Q : Int → TW → Prop) (x2 : Int) (w : TW) : Prop :=
  ∀ u14 : TW, u14 = sI w 119 3 →
  ∀ u15 : TW, u15 = sI u14 125 (i_rem x2 16) →
  Q (-4) u15
def pT_byRules_78 (call : Nat → List ZA → TW → (ZRes → TW → Prop) → Prop) (Q : Int → TW → Prop) (I5 : Int → TW → Prop) (x1 : Int) (x2 : Int) (s0 : Int) (w : TW) : Prop :=
  (s0 = 2 →
    pT_byRules_86 call Q x2 w) ∧
  (¬ (s0 = 2) →
    (s0 = 1 →
      pT_byRules_108 call Q x2 w) ∧
    (¬ (s0 = 1) →
      pT_byRules_110 call Q I5 x1 x2 w))
def pT_byRules_47 (call : Nat → List ZA → TW → (ZRes → TW → Prop) → Prop) (Q : Int → TW → Prop) (I5 : Int → TW → Prop) (x1 : Int) (x2 : Int) (x3 : Int) (w : TW) : Prop :=
  (0 ≤ x2 ∧ x2 < 192) ∧
  (x3 = (tA w 49 x2) →
    pT_byRules_110 call Q I5 x1 x2 w) ∧
  (¬ (x3 = (tA w 49 x2)) →
    (0 ≤ x2 ∧ x2 < 192) ∧
    ((tA w 53 x2) = 0 →
      pT_byRules_78 call Q I5 x1 x2 1 w) ∧
    (¬ ((tA w 53 x2) = 0) →
      call 93 [ai x2] w (zqI (fun v17 u16 =>
        pT_byRules_78 call Q I5 x1 x2 v17 u16) zno)))
def pT_byRules_22 (call : Nat → List ZA → TW → (ZRes → TW → Prop) → Prop) (Q : Int → TW → Prop) (I5 : Int → TW → Prop) (x1 : Int) (x2 : Int) (x3 : Int) (w : TW) : Prop :=
  ∀ I22 : Int → TW → Prop, (∀ (x3 : Int) (w : TW), (
    (0 ≤ x2 ∧ x2 < 192) ∧
    ((tA w 49 x2) ≤ x3 →
      pT_byRules_47 call Q I5 x1 x2 x3 w) ∧
    (¬ ((tA w 49 x2) ≤ x3) →
      call 91 [ai x2, ai x3] w (zqI (fun v19 u18 =>
        (v19 = 0 →
          ∀ x3_21 : Int, x3_21 = w32 (x3 + 1) →
          I22 x3_21 u18) ∧
        (¬ (v19 = 0) →
          pT_byRules_47 call Q I5 x1 x2 x3 u18)) zno))) → I22 x3 w) → I22 x3 w
def pT_byRules_5 (call : Nat → List ZA → TW → (ZRes → TW → Prop) → Prop) (Q : Int → TW → Prop) (x1 : Int) (x2 : Int) (w : TW) : Prop :=
  ∀ I5 : Int → TW → Prop, (∀ (x2 : Int) (w : TW), (
    (0 ≤ x1 ∧ x1 < 12) ∧
    ((w32 ((w32 (16 * x1)) + (tA w 45 x1))) ≤ x2 →
      pT_byRules_116 call Q w) ∧
    (¬ ((w32 ((w32 (16 * x1)) + (tA w 45 x1))) ≤ x2) →
      pT_byRules_22 call Q I5 x1 x2 0 w)) → I5 x2 w) → I5 x2 w
def pT_byRules_0 (call : Nat → List ZA → TW → (ZRes → TW → Prop) → Prop) (Q : Int → TW → Prop) (x1 : Int) (w : TW) : Prop :=
  ∀ x2_1 : Int, x2_1 = w32 (16 * x1) →
  pT_byRules_5 call Q x1 x2_1 w
/-! runs -/
def pT_runs_411 (call : Nat → List ZA → TW → (ZRes → TW → Prop) → Prop) (Q : Int → TW → Prop) (x6 : Int) (w : TW) : Prop :=
  ∀ u17 : TW, u17 = sI w 126 1 →
  Q x6 u17
def pT_runs_408 (call : Nat → List ZA → TW → (ZRes → TW → Prop) → Prop) (Q : Int → TW → Prop) (I152 : Int → Int → Int → TW → Prop) (x5 : Int) (x6 : Int) (x7 : Int) (x8 : Int) (w : TW) : Prop :=
  I152 x6 x7 x8 w
def pT_runs_396 (call : Nat → List ZA → TW → (ZRes → TW → Prop) → Prop) (Q : Int → TW → Prop) (I152 : Int → Int → Int → TW → Prop) (x5 : Int) (x6 : Int) (x9 : Int) (w : TW) : Prop :=
  (0 ≤ x9 ∧ x9 < 192) ∧
  ∀ x7_32 : Int, x7_32 = tA w 55 x9 →
  pT_runs_408 call Q I152 x5 x6 x7_32 1 w
def pT_runs_354 (call : Nat → List ZA → TW → (ZRes → TW → Prop) → Prop) (Q : Int → TW → Prop) (I152 : Int → Int → Int → TW → Prop) (x5 : Int) (x6 : Int) (x9 : Int) (x10 : Int) (w : TW) : Prop :=
  ∀ I354 : Int → TW → Prop, (∀ (x10 : Int) (w : TW), (
    (0 ≤ x9 ∧ x9 < 192) ∧
    ((tA w 58 x9) ≤ x10 →
      pT_runs_396 call Q I152 x5 x6 x9 w) ∧
    (¬ ((tA w 58 x9) ≤ x10) →
      (0 ≤ (w32 ((w32 (3 * x9)) + x10)) ∧ (w32 ((w32 (3 * x9)) + x10)) < 576) ∧
      (0 ≤ (tA w 59 (w32 ((w32 (3 * x9)) + x10))) ∧ (tA w 59 (w32 ((w32 (3 * x9)) + x10))) < 8) ∧
      (0 ≤ x10 ∧ x10 < 3) ∧
      ∀ u35 : TW, u35 = sA w 117 x10 (tA w 118 (tA w 59 (w32 ((w32 (3 * x9)) + x10)))) →
      ∀ x10_37 : Int, x10_37 = w32 (x10 + 1) →
      I354 x10_37 u35)) → I354 x10 w) → I354 x10 w
def pT_runs_270 (call : Nat → List ZA → TW → (ZRes → TW → Prop) → Prop) (Q : Int → TW → Prop) (I152 : Int → Int → Int → TW → Prop) (x5 : Int) (x6 : Int) (x7 : Int) (x8 : Int) (x9 : Int) (w : TW) : Prop :=
  (0 ≤ x9 ∧ x9 < 192) ∧
  (2 ≤ (tA w 54 x9) →
    ((tI w 121) = 100 →
      ∀ u38 : TW, u38 = sI w 119 4 →
      pT_runs_408 call Q I152 x5 x6 x7 x8 u38) ∧
    (¬ ((tI w 121) = 100) →
      pT_runs_354 call Q I152 x5 x6 x9 0 w)) ∧
  (¬ (2 ≤ (tA w 54 x9)) →
    ∀ u39 : TW, u39 = sI w 125 (i_rem x9 16) →
    (0 ≤ x9 ∧ x9 < 192) ∧
    (((tA u39 54 x9) = 0 → (0 ≤ x9 ∧ x9 < 192)) ∧ (¬ ((tA u39 54 x9) = 0) → (0 ≤ x9 ∧ x9 < 192) ∧ (0 ≤ (tA u39 55 x9) ∧ (tA u39 55 x9) < 8) ∧ (0 ≤ (tA u39 118 (tA u39 55 x9)) ∧ (tA u39 118 (tA u39 55 x9)) < 160))) ∧
    ∀ v41 : Int, v41 = (if (tA u39 54 x9) = 0 then tA u39 55 x9 else tA u39 111 (tA u39 118 (tA u39 55 x9))) →
    ∀ u43 : TW, u43 = sI u39 120 v41 →
    pT_runs_408 call Q I152 x5 x6 x7 x8 u43)
def pT_runs_243 (call : Nat → List ZA → TW → (ZRes → TW → Prop) → Prop) (Q : Int → TW → Prop) (I152 : Int → Int → Int → TW → Prop) (x5 : Int) (x6 : Int) (x7 : Int) (x8 : Int) (x9 : Int) (x10 : Int) (w : TW) : Prop :=
  ∀ I243 : Int → TW → Prop, (∀ (x10 : Int) (w : TW), (
    (8 ≤ x10 →
      pT_runs_270 call Q I152 x5 x6 x7 x8 x9 w) ∧
    (¬ (8 ≤ x10) →
      (0 ≤ x10 ∧ x10 < 8) ∧
      (0 ≤ x10 ∧ x10 < 8) ∧
      ∀ u51 : TW, u51 = sA w 129 x10 (tA w 118 x10) →
      ∀ x10_53 : Int, x10_53 = w32 (x10 + 1) →
      I243 x10_53 u51)) → I243 x10 w) → I243 x10 w
def pT_runs_199 (call : Nat → List ZA → TW → (ZRes → TW → Prop) → Prop) (Q : Int → TW → Prop) (I152 : Int → Int → Int → TW → Prop) (x5 : Int) (x6 : Int) (x7 : Int) (s0 : Int) (w : TW) : Prop :=
  (s0 = (-4) →
    I152 x6 x7 0 w) ∧
  (¬ (s0 = (-4)) →
    ((tI w 121) = 1 →
      ∀ x6_46 : Int, x6_46 = i_rem s0 16 →
      (0 ≤ s0 ∧ s0 < 192) ∧
      ∀ u48 : TW, u48 = sI w 128 (tA w 28 s0) →
      pT_runs_243 call Q I152 x5 x6_46 x7 0 s0 0 u48) ∧
    (¬ ((tI w 121) = 1) →
      pT_runs_270 call Q I152 x5 x6 x7 0 s0 w))
def pT_runs_152 (call : Nat → List ZA → TW → (ZRes → TW → Prop) → Prop) (Q : Int → TW → Prop) (x5 : Int) (x6 : Int) (x7 : Int) (x8 : Int) (w : TW) : Prop :=
  ∀ I152 : Int → Int → Int → TW → Prop, (∀ (x6 : Int) (x7 : Int) (x8 : Int) (w : TW), (
    (x8 = 0 →
      pT_runs_411 call Q x6 w) ∧
    (¬ (x8 = 0) →
      ∀ u18 : TW, u18 = sI w 121 (w32 ((tI w 121) + 1)) →
      ∀ u19 : TW, u19 = sI u18 124 x7 →
      ∀ u20 : TW, u20 = sI u19 125 (-4) →
      (x5 = 0 →
        call 99 [ai x7] u20 (zqI (fun v23 u22 =>
          pT_runs_199 call Q I152 x5 x6 x7 v23 u22) zno)) ∧
      (¬ (x5 = 0) →
        call 90 [ai x7] u20 (zqI (fun v55 u54 =>
          pT_runs_199 call Q I152 x5 x6 x7 v55 u54) zno)))) → I152 x6 x7 x8 w) → I152 x6 x7 x8 w
def pT_runs_84 (call : Nat → List ZA → TW → (ZRes → TW → Prop) → Prop) (Q : Int → TW → Prop) (x1 : Int) (x2 : Int) (x3 : Int) (x4 : Int) (x5 : Int) (w : TW) : Prop :=
  ∀ u6 : TW, u6 = sA w 117 0 x2 →
  ∀ u7 : TW, u7 = sA u6 117 1 x3 →
  ∀ u8 : TW, u8 = sA u7 117 2 x4 →
  ∀ u9 : TW, u9 = sI u8 119 0 →
  ∀ u10 : TW, u10 = sI u9 120 0 →
  ∀ u11 : TW, u11 = sI u10 121 0 →
  ∀ u12 : TW, u12 = sI u11 122 0 →
  ∀ u13 : TW, u13 = sI u12 123 0 →
  ∀ u14 : TW, u14 = sI u13 128 0 →
  ∀ u15 : TW, u15 = sI u14 125 (-4) →
  pT_runs_152 call Q x5 (-4) x1 1 u15
def pT_runs_76 (call : Nat → List ZA → TW → (ZRes → TW → Prop) → Prop) (Q : Int → TW → Prop) (w : TW) : Prop :=
  Q (-1) w
def pT_runs_13 (call : Nat → List ZA → TW → (ZRes → TW → Prop) → Prop) (Q : Int → TW → Prop) (x1 : Int) (x2 : Int) (x3 : Int) (x4 : Int) (x5 : Int) (x6 : Int) (w : TW) : Prop :=
  ∀ I13 : Int → TW → Prop, (∀ (x6 : Int) (w : TW), (
    (0 ≤ x1 ∧ x1 < 12) ∧
    ((tA w 43 x1) ≤ x6 →
      pT_runs_84 call Q x1 x2 x3 x4 x5 w) ∧
    (¬ ((tA w 43 x1) ≤ x6) →
      ∀ v56 : Int, v56 = (if x6 = 0 then x2 else (if x6 = 1 then x3 else x4)) →
      ((ff_isValue v56 w) = 0 →
        pT_runs_76 call Q w) ∧
      (¬ ((ff_isValue v56 w) = 0) →
        (0 ≤ (w32 ((w32 (3 * x1)) + x6)) ∧ (w32 ((w32 (3 * x1)) + x6)) < 36) ∧
        call 85 [ai v56, ai (tA w 44 (w32 ((w32 (3 * x1)) + x6)))] w (zqI (fun v62 u61 =>
          (v62 = 0 →
            pT_runs_76 call Q u61) ∧
          (¬ (v62 = 0) →
            ∀ x6_64 : Int, x6_64 = w32 (x6 + 1) →
            I13 x6_64 u61)) zno)))) → I13 x6 w) → I13 x6 w
def pT_runs_0 (call : Nat → List ZA → TW → (ZRes → TW → Prop) → Prop) (Q : Int → TW → Prop) (x1 : Int) (x2 : Int) (x3 : Int) (x4 : Int) (x5 : Int) (w : TW) : Prop :=
  ((ff_isFunction x1 w) = 0 →
    Q (-1) w) ∧
  (¬ ((ff_isFunction x1 w) = 0) →
    pT_runs_13 call Q x1 x2 x3 x4 x5 0 w)
/-! sort -/
def pT_sort_0 (call : Nat → List ZA → TW → (ZRes → TW → Prop) → Prop) (Q : Int → TW → Prop) (x1 : Int) (x2 : Int) (x3 : Int) (x4 : Int) (w : TW) : Prop :=
  call 89 [ai x1, ai x2, ai x3, ai x4, ai 1] w (zqI (fun v2 u1 =>
    Q v2 u1) zno)
/-! plain -/
def pT_plain_0 (call : Nat → List ZA → TW → (ZRes → TW → Prop) → Prop) (Q : Int → TW → Prop) (x1 : Int) (x2 : Int) (x3 : Int) (x4 : Int) (w : TW) : Prop :=
  call 89 [ai x1, ai x2, ai x3, ai x4, ai 0] w (zqI (fun v2 u1 =>
    Q v2 u1) zno)
/-! told -/
def pT_told_0 (call : Nat → List ZA → TW → (ZRes → TW → Prop) → Prop) (Q : Int → TW → Prop) (x1 : Int) (w : TW) : Prop :=
  ((ff_in x1 0 6 w) = 0 →
    Q (-1) w) ∧
  (¬ ((ff_in x1 0 6 w) = 0) →
    ((tI w 126) = 0 →
      Q 0 w) ∧
    (¬ ((tI w 126) = 0) →
      ∀ v5 : Int, v5 = (if x1 = 0 then tI w 119 else (if x1 = 1 then tI w 120 else (if x1 = 2 then tI w 121 else (if x1 = 3 then tI w 122 else (if x1 = 4 then tI w 123 else (if x1 = 5 then tI w 124 else tI w 125)))))) →
      Q v5 w))
/-! guard -/
noncomputable def ff_guard (x1 : Int) (w : TW) : Int := ((if ¬ ((ff_in x1 0 (w32 (((if ¬ (32 ≤ (tI w 123)) then tI w 123 else 32)) - 1)) w) = 0) then tA w 127 x1 else (-4)))
def fo_guard (x1 : Int) (w : TW) : Prop := ((¬ ((ff_in x1 0 (w32 (((if ¬ (32 ≤ (tI w 123)) then tI w 123 else 32)) - 1)) w) = 0) → (0 ≤ x1 ∧ x1 < 32)))
theorem fr_guard {x1 : Int} {w : TW} (hw : tok w) (rx1 : zr x1) : zr (ff_guard x1 w) := by unfold ff_guard; exact ((zr_ite (hw.a 127 _ (by decide)) (zr_k (-4) (by decide) (by decide))))
def pT_guard_0 (call : Nat → List ZA → TW → (ZRes → TW → Prop) → Prop) (Q : Int → TW → Prop) (x1 : Int) (w : TW) : Prop :=
  ∀ v1 : Int, v1 = (if ¬ (32 ≤ (tI w 123)) then tI w 123 else 32) →
  ((¬ ((ff_in x1 0 (w32 (v1 - 1)) w) = 0) → (0 ≤ x1 ∧ x1 < 32))) ∧
  ∀ v4 : Int, v4 = (if ¬ ((ff_in x1 0 (w32 (v1 - 1)) w) = 0) then tA w 127 x1 else (-4)) →
  Q v4 w
/-! bound -/
noncomputable def ff_bound (x1 : Int) (w : TW) : Int := ((if ¬ ((ff_in x1 0 (w32 ((tI w 128) - 1)) w) = 0) then tA w 129 x1 else (-4)))
def fo_bound (x1 : Int) (w : TW) : Prop := ((¬ ((ff_in x1 0 (w32 ((tI w 128) - 1)) w) = 0) → (0 ≤ x1 ∧ x1 < 8)))
theorem fr_bound {x1 : Int} {w : TW} (hw : tok w) (rx1 : zr x1) : zr (ff_bound x1 w) := by unfold ff_bound; exact ((zr_ite (hw.a 129 _ (by decide)) (zr_k (-4) (by decide) (by decide))))
def pT_bound_0 (call : Nat → List ZA → TW → (ZRes → TW → Prop) → Prop) (Q : Int → TW → Prop) (x1 : Int) (w : TW) : Prop :=
  ((¬ ((ff_in x1 0 (w32 ((tI w 128) - 1)) w) = 0) → (0 ≤ x1 ∧ x1 < 8))) ∧
  ∀ v3 : Int, v3 = (if ¬ ((ff_in x1 0 (w32 ((tI w 128) - 1)) w) = 0) then tA w 129 x1 else (-4)) →
  Q v3 w
/-! count -/
noncomputable def ff_count (x1 : Int) (w : TW) : Int := ((if x1 = 0 then tI w 10 else (if x1 = 1 then tI w 41 else (if x1 = 2 then tI w 109 else (if x1 = 3 then tI w 1 else (if x1 = 4 then tI w 11 else (-1)))))))
theorem fr_count {x1 : Int} {w : TW} (hw : tok w) (rx1 : zr x1) : zr (ff_count x1 w) := by unfold ff_count; exact ((zr_ite (hw.i 10 (by decide)) (zr_ite (hw.i 41 (by decide)) (zr_ite (hw.i 109 (by decide)) (zr_ite (hw.i 1 (by decide)) (zr_ite (hw.i 11 (by decide)) (zr_k (-1) (by decide) (by decide))))))))
def pT_count_0 (call : Nat → List ZA → TW → (ZRes → TW → Prop) → Prop) (Q : Int → TW → Prop) (x1 : Int) (w : TW) : Prop :=
  ∀ v1 : Int, v1 = (if x1 = 0 then tI w 10 else (if x1 = 1 then tI w 41 else (if x1 = 2 then tI w 109 else (if x1 = 3 then tI w 1 else (if x1 = 4 then tI w 11 else (-1)))))) →
  Q v1 w
end ZPT
