/-! THE COMPONENT's METHODS as weakest preconditions, printed by tools/comp.py -/
section ZPC
def vm0 (t : Nat) : Nat := if t = 6 then 92 else if t = 7 then 92 else if t = 8 then 103 else if t = 9 then 108 else if t = 10 then 92 else if t = 11 then 92 else if t = 12 then 92 else 9999
def vm1 (t : Nat) : Nat := if t = 19 then 158 else if t = 20 then 158 else if t = 21 then 158 else if t = 22 then 170 else if t = 23 then 170 else if t = 24 then 170 else if t = 25 then 170 else 9999
def vm2 (t : Nat) : Nat := if t = 19 then 156 else if t = 20 then 163 else if t = 21 then 167 else if t = 22 then 172 else if t = 23 then 175 else if t = 24 then 178 else if t = 25 then 181 else 9999
def vm3 (t : Nat) : Nat := if t = 19 then 157 else if t = 20 then 164 else if t = 21 then 164 else if t = 22 then 157 else if t = 23 then 157 else if t = 24 then 157 else if t = 25 then 157 else 9999
def vm4 (t : Nat) : Nat := if t = 26 then 184 else if t = 27 then 184 else if t = 28 then 184 else if t = 29 then 184 else if t = 30 then 200 else 9999
def vm5 (t : Nat) : Nat := if t = 26 then 187 else if t = 27 then 191 else if t = 28 then 193 else if t = 29 then 197 else if t = 30 then 199 else 9999
def vm6 (t : Nat) : Nat := if t = 26 then 188 else if t = 27 then 188 else if t = 28 then 194 else if t = 29 then 185 else if t = 30 then 202 else 9999
def vm7 (t : Nat) : Nat := if t = 26 then 189 else if t = 27 then 189 else if t = 28 then 195 else if t = 29 then 198 else if t = 30 then 203 else 9999
def vm8 (t : Nat) : Nat := if t = 19 then 160 else if t = 20 then 160 else if t = 21 then 168 else if t = 22 then 173 else if t = 23 then 176 else if t = 24 then 179 else if t = 25 then 182 else 9999
def vm9 (t : Nat) : Nat := if t = 20 then 160 else if t = 21 then 168 else 9999
def vm10 (t : Nat) : Nat := if t = 6 then 93 else if t = 7 then 98 else if t = 8 then 104 else if t = 9 then 109 else if t = 10 then 98 else if t = 11 then 98 else if t = 12 then 98 else 9999
def vm11 (t : Nat) : Nat := if t = 6 then 96 else if t = 7 then 101 else if t = 8 then 106 else if t = 9 then 110 else if t = 10 then 113 else if t = 11 then 116 else if t = 12 then 119 else 9999
def vm12 (t : Nat) : Nat := if t = 7 then 100 else if t = 8 then 105 else if t = 10 then 112 else if t = 11 then 115 else if t = 12 then 118 else 9999
def vm13 (t : Nat) : Nat := if t = 26 then 187 else if t = 27 then 191 else 9999
def vm14 (t : Nat) : Nat := if t = 29 then 197 else if t = 30 then 199 else 9999
def vm15 (t : Nat) : Nat := if t = 31 then 219 else if t = 32 then 228 else if t = 34 then 228 else 9999
/-! LetterPost.feed(JI)I -/
def pC_X0_feed_73 (p : Nat) (call : Nat → List ZA → CW → (ZRes → CW → Prop) → Prop) (Q : Int → CW → Prop) (w : CW) : Prop :=
  Q (fI w 8 p) w
def pC_X0_feed_34 (p : Nat) (call : Nat → List ZA → CW → (ZRes → CW → Prop) → Prop) (Q : Int → CW → Prop) (x1 : Int) (x4 : Int) (w : CW) : Prop :=
  ∀ I34 : Int → CW → Prop, (∀ (x4 : Int) (w : CW), (
    (x4 < 0 →
      pC_X0_feed_73 p call Q w) ∧
    (¬ (x4 < 0) →
      ((tg w (fR w 7 p) = 101 ∨ tg w (fR w 7 p) = 104) ∧ 0 ≤ (fI w 8 p) ∧ (fI w 8 p) < ln w (fR w 7 p)) ∧
      ∀ u7 : CW, u7 = qI w (fR w 7 p) (fI w 8 p) (if tg w (fR w 7 p) = 104 then zb (i_b (w32 (l_shr x1 (w32 (8 * x4))))) else i_b (i_b (w32 (l_shr x1 (w32 (8 * x4)))))) →
      ∀ u9 : CW, u9 = pI u7 8 p (w32 ((fI u7 8 p) + 1)) →
      ∀ x4_10 : Int, x4_10 = w32 (x4 + (-1)) →
      I34 x4_10 u9)) → I34 x4 w) → I34 x4 w
def pC_X0_feed_0 (p : Nat) (call : Nat → List ZA → CW → (ZRes → CW → Prop) → Prop) (Q : Int → CW → Prop) (x1 : Int) (x3 : Int) (w : CW) : Prop :=
  call 1 [al x3, al 1, al 8] w (zqI (fun v2 u1 =>
    (v2 = 0 →
      Q (-1) u1) ∧
    (¬ (v2 = 0) →
      ((w32 ((fI u1 8 p) + x3)) ≤ 1600 →
        ∀ x4_5 : Int, x4_5 = w32 (x3 - 1) →
        pC_X0_feed_34 p call Q x1 x4_5 u1) ∧
      (¬ ((w32 ((fI u1 8 p) + x3)) ≤ 1600) →
        Q (-3) u1))) zno)
/-! LetterPost.isIn(JJJ)Z -/
def pC_X0_isIn_0 (p : Nat) (call : Nat → List ZA → CW → (ZRes → CW → Prop) → Prop) (Q : Int → CW → Prop) (x0 : Int) (x2 : Int) (x4 : Int) (w : CW) : Prop :=
  ∀ v1 : Int, v1 = (if ¬ (x0 < x2) ∧ (¬ (x4 < x0)) then 1 else 0) →
  Q v1 w
/-! LetterPost.read()I -/
def pC_X0_read_162 (p : Nat) (call : Nat → List ZA → CW → (ZRes → CW → Prop) → Prop) (Q : Int → CW → Prop) (x1 : Int) (w : CW) : Prop :=
  ∀ u19 : CW, u19 = pI w 8 p 0 →
  Q x1 u19
def pC_X0_read_117 (p : Nat) (call : Nat → List ZA → CW → (ZRes → CW → Prop) → Prop) (Q : Int → CW → Prop) (w : CW) : Prop :=
  ∀ u17 : CW, u17 = pI w 22 p 1 →
  ∀ x1_18 : Int, x1_18 = fI u17 6 p →
  pC_X0_read_162 p call Q x1_18 u17
def pC_X0_read_130 (p : Nat) (call : Nat → List ZA → CW → (ZRes → CW → Prop) → Prop) (Q : Int → CW → Prop) (s0 : Nat) (w : CW) : Prop :=
  (hF 35 (tg w s0) = true) ∧
  ∀ u30 : CW, u30 = pI w 21 p (fI w 35 s0) →
  call 44 [ar p] u30 (zqV (fun u31 =>
    (hF 36 (tg u31 s0) = true) ∧
    ∀ x1_34 : Int, x1_34 = w32 ((-10) - (fI u31 36 s0)) →
    pC_X0_read_162 p call Q x1_34 u31) zno)
def pC_X0_read_154 (p : Nat) (call : Nat → List ZA → CW → (ZRes → CW → Prop) → Prop) (Q : Int → CW → Prop) (s0 : Nat) (w : CW) : Prop :=
  call 44 [ar p] w (zqV (fun u35 =>
    pC_X0_read_162 p call Q (-3) u35) zno)
def pC_X0_read_84 (p : Nat) (call : Nat → List ZA → CW → (ZRes → CW → Prop) → Prop) (Q : Int → CW → Prop) (x2 : Int) (w : CW) : Prop :=
  ∀ I84 : Int → CW → Prop, (∀ (x2 : Int) (w : CW), (
    ((fI w 6 p) ≤ x2 →
      pC_X0_read_117 p call Q w) ∧
    (¬ ((fI w 6 p) ≤ x2) →
      ((111 ≤ tg w (fR w 5 p) ∧ tg w (fR w 5 p) ≤ 119) ∧ 0 ≤ x2 ∧ x2 < ln w (fR w 5 p)) ∧
      (tg w (aR w (fR w 5 p) x2) = 4) ∧
      call 86 [ar (aR w (fR w 5 p) x2)] w (zqV (fun u21 =>
        ((111 ≤ tg u21 (fR u21 5 p) ∧ tg u21 (fR u21 5 p) ≤ 119) ∧ 0 ≤ x2 ∧ x2 < ln u21 (fR u21 5 p)) ∧
        (tg u21 (aR u21 (fR u21 5 p) x2) = 4) ∧
        call 88 [ar (aR u21 (fR u21 5 p) x2), ai 0] u21 (zqV (fun u24 =>
          ∀ x2_26 : Int, x2_26 = w32 (x2 + 1) →
          I84 x2_26 u24) (fun x27 u28 =>
          (tg u28 x27 = 2 →
            pC_X0_read_130 p call Q x27 u28) ∧
          (¬ tg u28 x27 = 2 → tg u28 x27 = 18 ∧
            pC_X0_read_154 p call Q x27 u28)))) zno))) → I84 x2 w) → I84 x2 w
def pC_X0_read_62 (p : Nat) (call : Nat → List ZA → CW → (ZRes → CW → Prop) → Prop) (Q : Int → CW → Prop) (w : CW) : Prop :=
  ∀ v11 : Int, v11 = (if (fI w 10 p) = 0 then 1 else 0) →
  call 14 [ar p, ai v11] w (zqV (fun u12 =>
    call 41 [ar p] u12 (zqV (fun u14 =>
      pC_X0_read_84 p call Q 0 u14) (fun x39 u40 =>
      (tg u40 x39 = 2 →
        pC_X0_read_130 p call Q x39 u40) ∧
      (¬ tg u40 x39 = 2 → tg u40 x39 = 18 ∧
        pC_X0_read_154 p call Q x39 u40)))) (fun x41 u42 =>
    (tg u42 x41 = 2 →
      pC_X0_read_130 p call Q x41 u42) ∧
    (¬ tg u42 x41 = 2 → tg u42 x41 = 18 ∧
      pC_X0_read_154 p call Q x41 u42)))
def pC_X0_read_45 (p : Nat) (call : Nat → List ZA → CW → (ZRes → CW → Prop) → Prop) (Q : Int → CW → Prop) (w : CW) : Prop :=
  ∀ I45 : CW → Prop, (∀ (w : CW), (
    call 12 [ar p, ar (sr w 8)] w (zqI (fun v9 u8 =>
      (v9 = 0 →
        pC_X0_read_62 p call Q u8) ∧
      (¬ (v9 = 0) →
        call 19 [ar p] u8 (zqV (fun u45 =>
          I45 u45) (fun x47 u48 =>
          (tg u48 x47 = 2 →
            pC_X0_read_130 p call Q x47 u48) ∧
          (¬ tg u48 x47 = 2 → tg u48 x47 = 18 ∧
            pC_X0_read_154 p call Q x47 u48))))) zno)) → I45 w) → I45 w
def pC_X0_read_19 (p : Nat) (call : Nat → List ZA → CW → (ZRes → CW → Prop) → Prop) (Q : Int → CW → Prop) (w : CW) : Prop :=
  ∀ I19 : CW → Prop, (∀ (w : CW), (
    call 12 [ar p, ar (sr w 3)] w (zqI (fun v6 u5 =>
      (v6 = 0 →
        pC_X0_read_45 p call Q u5) ∧
      (¬ (v6 = 0) →
        call 4 [ar p] u5 (zqV (fun u49 =>
          call 13 [ar p, ai 0] u49 (zqV (fun u51 =>
            call 4 [ar p] u51 (zqV (fun u53 =>
              I19 u53) (fun x55 u56 =>
              (tg u56 x55 = 2 →
                pC_X0_read_130 p call Q x55 u56) ∧
              (¬ tg u56 x55 = 2 → tg u56 x55 = 18 ∧
                pC_X0_read_154 p call Q x55 u56)))) (fun x57 u58 =>
            (tg u58 x57 = 2 →
              pC_X0_read_130 p call Q x57 u58) ∧
            (¬ tg u58 x57 = 2 → tg u58 x57 = 18 ∧
              pC_X0_read_154 p call Q x57 u58)))) (fun x59 u60 =>
          (tg u60 x59 = 2 →
            pC_X0_read_130 p call Q x59 u60) ∧
          (¬ tg u60 x59 = 2 → tg u60 x59 = 18 ∧
            pC_X0_read_154 p call Q x59 u60))))) zno)) → I19 w) → I19 w
def pC_X0_read_0 (p : Nat) (call : Nat → List ZA → CW → (ZRes → CW → Prop) → Prop) (Q : Int → CW → Prop) (w : CW) : Prop :=
  ((fI w 22 p) = 0 →
    ∀ u2 : CW, u2 = pI w 21 p 0 →
    call 3 [ar p] u2 (zqV (fun u3 =>
      pC_X0_read_19 p call Q u3) (fun x61 u62 =>
      (tg u62 x61 = 2 →
        pC_X0_read_130 p call Q x61 u62) ∧
      (¬ tg u62 x61 = 2 → tg u62 x61 = 18 ∧
        pC_X0_read_154 p call Q x61 u62)))) ∧
  (¬ ((fI w 22 p) = 0) →
    Q (-2) w)
/-! LetterPost.begin()V -/
def pC_X0_begin_0 (p : Nat) (call : Nat → List ZA → CW → (ZRes → CW → Prop) → Prop) (Q : CW → Prop) (X : Nat → CW → Prop) (w : CW) : Prop :=
  ∀ u1 : CW, u1 = pI w 9 p 0 →
  call 4 [ar p] u1 (zqV (fun u2 =>
    Q u2) (fun x4 u5 =>
    X x4 u5))
/-! LetterPost.next()V -/
def pC_X0_next_260 (p : Nat) (call : Nat → List ZA → CW → (ZRes → CW → Prop) → Prop) (Q : CW → Prop) (X : Nat → CW → Prop) (w : CW) : Prop :=
  Q w
def pC_X0_next_63 (p : Nat) (call : Nat → List ZA → CW → (ZRes → CW → Prop) → Prop) (Q : CW → Prop) (X : Nat → CW → Prop) (x1 : Int) (w : CW) : Prop :=
  call 7 [ai x1] w (zqI (fun v10 u9 =>
    call 8 [ar p, ai v10] u9 (zqV (fun u11 =>
      pC_X0_next_260 p call Q X u11) (fun x13 u14 =>
      X x13 u14))) zno)
def pC_X0_next_222 (p : Nat) (call : Nat → List ZA → CW → (ZRes → CW → Prop) → Prop) (Q : CW → Prop) (X : Nat → CW → Prop) (x1 : Int) (s0 : Int) (s1 : Nat) (w : CW) : Prop :=
  (tg w s1 = 1) ∧
  call 10 [ar s1, ai s0, ai 1, ai (fI w 11 p)] w (zqV (fun u20 =>
    ∀ u22 : CW, u22 = pI u20 10 p 5 →
    ∀ u23 : CW, u23 = pI u22 14 p x1 →
    ∀ v24 : Int, v24 = (if ¬ (x1 = 46) then 1 else 2) →
    ∀ u25 : CW, u25 = pI u23 9 p (w32 ((fI u23 9 p) + v24)) →
    pC_X0_next_260 p call Q X u25) (fun x28 u29 =>
    X x28 u29))
def pC_X0_next_221 (p : Nat) (call : Nat → List ZA → CW → (ZRes → CW → Prop) → Prop) (Q : CW → Prop) (X : Nat → CW → Prop) (x1 : Int) (s0 : Nat) (w : CW) : Prop :=
  pC_X0_next_222 p call Q X x1 0 s0 w
def pC_X0_next_217 (p : Nat) (call : Nat → List ZA → CW → (ZRes → CW → Prop) → Prop) (Q : CW → Prop) (X : Nat → CW → Prop) (x1 : Int) (s0 : Nat) (w : CW) : Prop :=
  pC_X0_next_222 p call Q X x1 1 s0 w
def pC_X0_next_166 (p : Nat) (call : Nat → List ZA → CW → (ZRes → CW → Prop) → Prop) (Q : CW → Prop) (X : Nat → CW → Prop) (w : CW) : Prop :=
  pC_X0_next_260 p call Q X w
def pC_X0_next_93 (p : Nat) (call : Nat → List ZA → CW → (ZRes → CW → Prop) → Prop) (Q : CW → Prop) (X : Nat → CW → Prop) (x2 : Int) (w : CW) : Prop :=
  ∀ I93 : Int → CW → Prop, (∀ (x2 : Int) (w : CW), (
    call 6 [ar p, ai (fI w 9 p)] w (zqI (fun v47 u46 =>
      call 9 [ai v47] u46 (zqI (fun v49 u48 =>
        (v49 = 0 →
          pC_X0_next_166 p call Q X u48) ∧
        (¬ (v49 = 0) →
          ∀ v51 : Int, v51 = (if ¬ (9 ≤ x2) then 1 else 0) →
          call 10 [ar p, ai v51, ai 1, ai (fI u48 11 p)] u48 (zqV (fun u52 =>
            call 6 [ar p, ai (fI u52 9 p)] u52 (zqI (fun v55 u54 =>
              ∀ u56 : CW, u56 = pI u54 13 p (w32 ((w32 ((w32 (10 * (fI u52 13 p))) + v55)) - 48)) →
              ∀ x2_57 : Int, x2_57 = w32 (x2 + 1) →
              ∀ u58 : CW, u58 = pI u56 9 p (w32 ((fI u56 9 p) + 1)) →
              I93 x2_57 u58) zno)) (fun x59 u60 =>
            X x59 u60)))) zno)) zno)) → I93 x2 w) → I93 x2 w
def pC_X0_next_74 (p : Nat) (call : Nat → List ZA → CW → (ZRes → CW → Prop) → Prop) (Q : CW → Prop) (X : Nat → CW → Prop) (x1 : Int) (w : CW) : Prop :=
  call 9 [ai x1] w (zqI (fun v16 u15 =>
    (v16 = 0 →
      (x1 = 39 →
        call 11 [ar p] u15 (zqV (fun u40 =>
          pC_X0_next_260 p call Q X u40) (fun x42 u43 =>
          X x42 u43))) ∧
      (¬ (x1 = 39) →
        (x1 ≤ 0 →
          pC_X0_next_221 p call Q X x1 p u15) ∧
        (¬ (x1 ≤ 0) →
          (tg u15 (sr u15 2) = 32 ∨ tg u15 (sr u15 2) = 34) ∧
          call 231 [ar (sr u15 2), ai x1] u15 (zqI (fun v32 u31 =>
            (v32 < 0 →
              pC_X0_next_221 p call Q X x1 p u31) ∧
            (¬ (v32 < 0) →
              (x1 = 46 →
                call 6 [ar p, ai (w32 ((fI u31 9 p) + 1))] u31 (zqI (fun v36 u35 =>
                  (v36 = 46 →
                    pC_X0_next_217 p call Q X x1 p u35) ∧
                  (¬ (v36 = 46) →
                    pC_X0_next_221 p call Q X x1 p u35)) zno)) ∧
              (¬ (x1 = 46) →
                pC_X0_next_217 p call Q X x1 p u31))) zno)))) ∧
    (¬ (v16 = 0) →
      ∀ u44 : CW, u44 = pI u15 10 p 3 →
      ∀ u45 : CW, u45 = pI u44 13 p 0 →
      pC_X0_next_93 p call Q X 0 u45)) zno)
def pC_X0_next_44 (p : Nat) (call : Nat → List ZA → CW → (ZRes → CW → Prop) → Prop) (Q : CW → Prop) (X : Nat → CW → Prop) (x1 : Int) (w : CW) : Prop :=
  call 7 [ai x1] w (zqI (fun v8 u7 =>
    (¬ (v8 = 0) ∨ (¬ (x1 < 65) ∧ (¬ (90 < x1))) →
      pC_X0_next_63 p call Q X x1 u7) ∧
    (¬ (¬ (v8 = 0) ∨ (¬ (x1 < 65) ∧ (¬ (90 < x1)))) →
      pC_X0_next_74 p call Q X x1 u7)) zno)
def pC_X0_next_0 (p : Nat) (call : Nat → List ZA → CW → (ZRes → CW → Prop) → Prop) (Q : CW → Prop) (X : Nat → CW → Prop) (w : CW) : Prop :=
  call 5 [ar p] w (zqV (fun u1 =>
    ∀ u3 : CW, u3 = pI u1 11 p (fI u1 9 p) →
    call 6 [ar p, ai (fI u3 9 p)] u3 (zqI (fun v5 u4 =>
      (¬ (0 ≤ v5) ∧ ((fI u4 9 p) = (fI u4 8 p)) →
        ∀ u6 : CW, u6 = pI u4 10 p 0 →
        pC_X0_next_260 p call Q X u6) ∧
      (¬ (¬ (0 ≤ v5) ∧ ((fI u4 9 p) = (fI u4 8 p))) →
        pC_X0_next_44 p call Q X v5 u4)) zno)) zno)
/-! LetterPost.blanks()V -/
def pC_X0_blanks_26 (p : Nat) (call : Nat → List ZA → CW → (ZRes → CW → Prop) → Prop) (Q : CW → Prop) (I0 : CW → Prop) (w : CW) : Prop :=
  ∀ u4 : CW, u4 = pI w 9 p (w32 ((fI w 9 p) + 1)) →
  I0 u4
def pC_X0_blanks_39 (p : Nat) (call : Nat → List ZA → CW → (ZRes → CW → Prop) → Prop) (Q : CW → Prop) (w : CW) : Prop :=
  Q w
def pC_X0_blanks_0 (p : Nat) (call : Nat → List ZA → CW → (ZRes → CW → Prop) → Prop) (Q : CW → Prop) (w : CW) : Prop :=
  ∀ I0 : CW → Prop, (∀ (w : CW), (
    call 6 [ar p, ai (fI w 9 p)] w (zqI (fun v2 u1 =>
      (v2 = 32 →
        pC_X0_blanks_26 p call Q I0 u1) ∧
      (¬ (v2 = 32) →
        call 6 [ar p, ai (fI u1 9 p)] u1 (zqI (fun v6 u5 =>
          (v6 = 10 →
            pC_X0_blanks_26 p call Q I0 u5) ∧
          (¬ (v6 = 10) →
            pC_X0_blanks_39 p call Q u5)) zno))) zno)) → I0 w) → I0 w
/-! LetterPost.unit(I)I -/
def pC_X0_unit_0 (p : Nat) (call : Nat → List ZA → CW → (ZRes → CW → Prop) → Prop) (Q : Int → CW → Prop) (x1 : Int) (w : CW) : Prop :=
  ((¬ ((fI w 8 p) ≤ x1) → ((tg w (fR w 7 p) = 101 ∨ tg w (fR w 7 p) = 104 ∨ tg w (fR w 7 p) = 106) ∧ 0 ≤ x1 ∧ x1 < ln w (fR w 7 p)))) ∧
  ∀ v1 : Int, v1 = (if ¬ ((fI w 8 p) ≤ x1) then aN w (fR w 7 p) x1 else (-1)) →
  Q v1 w
/-! LetterPost.isSmall(I)Z -/
def pC_X0_isSmall_0 (p : Nat) (call : Nat → List ZA → CW → (ZRes → CW → Prop) → Prop) (Q : Int → CW → Prop) (x0 : Int) (w : CW) : Prop :=
  ∀ v1 : Int, v1 = (if ¬ (x0 < 97) ∧ (¬ (122 < x0)) then 1 else 0) →
  Q v1 w
/-! LetterPost.readLetters(Z)V -/
def pC_X0_readLetters_39 (p : Nat) (call : Nat → List ZA → CW → (ZRes → CW → Prop) → Prop) (Q : CW → Prop) (X : Nat → CW → Prop) (I7 : Int → CW → Prop) (x1 : Int) (x2 : Int) (w : CW) : Prop :=
  ∀ v7 : Int, v7 = (if ¬ (8 ≤ x2) then 1 else 0) →
  call 10 [ar p, ai v7, ai 1, ai (fI w 11 p)] w (zqV (fun u8 =>
    call 6 [ar p, ai (fI u8 9 p)] u8 (zqI (fun v11 u10 =>
      ∀ u12 : CW, u12 = pI u10 12 p (l_or (l_shl (fI u8 12 p) 8) v11) →
      ∀ x2_13 : Int, x2_13 = w32 (x2 + 1) →
      ∀ u14 : CW, u14 = pI u12 9 p (w32 ((fI u12 9 p) + 1)) →
      I7 x2_13 u14) zno)) (fun x15 u16 =>
    X x15 u16))
def pC_X0_readLetters_184 (p : Nat) (call : Nat → List ZA → CW → (ZRes → CW → Prop) → Prop) (Q : CW → Prop) (X : Nat → CW → Prop) (w : CW) : Prop :=
  Q w
def pC_X0_readLetters_157 (p : Nat) (call : Nat → List ZA → CW → (ZRes → CW → Prop) → Prop) (Q : CW → Prop) (X : Nat → CW → Prop) (x3 : Nat) (w : CW) : Prop :=
  (tg w x3 = 31) ∧
  call 218 [ar x3, ai 124] w (zqR (fun v33 u32 =>
    (tg u32 v33 = 31) ∧
    call 219 [ar v33] u32 (zqR (fun v35 u34 =>
      (tg u34 (sr w 1) = 32 ∨ tg u34 (sr w 1) = 34) ∧
      call 227 [ar (sr w 1), ar v35] u34 (zqI (fun v37 u36 =>
        ∀ v38 : Int, v38 = (if v37 = 0 then 1 else 6) →
        ∀ u39 : CW, u39 = pI u36 10 p v38 →
        pC_X0_readLetters_184 p call Q X u39) zno)) zno)) zno)
def pC_X0_readLetters_129 (p : Nat) (call : Nat → List ZA → CW → (ZRes → CW → Prop) → Prop) (Q : CW → Prop) (X : Nat → CW → Prop) (x3 : Nat) (x4 : Int) (w : CW) : Prop :=
  ∀ I129 : Int → CW → Prop, (∀ (x4 : Int) (w : CW), (
    ((fI w 9 p) ≤ x4 →
      pC_X0_readLetters_157 p call Q X x3 w) ∧
    (¬ ((fI w 9 p) ≤ x4) →
      ((tg w (fR w 7 p) = 101 ∨ tg w (fR w 7 p) = 104 ∨ tg w (fR w 7 p) = 106) ∧ 0 ≤ x4 ∧ x4 < ln w (fR w 7 p)) ∧
      (tg w x3 = 31) ∧
      call 218 [ar x3, ai (i_c (aN w (fR w 7 p) x4))] w (zqR (fun v48 u47 =>
        ∀ x4_49 : Int, x4_49 = w32 (x4 + 1) →
        I129 x4_49 u47) zno))) → I129 x4 w) → I129 x4 w
def pC_X0_readLetters_96 (p : Nat) (call : Nat → List ZA → CW → (ZRes → CW → Prop) → Prop) (Q : CW → Prop) (X : Nat → CW → Prop) (x1 : Int) (w : CW) : Prop :=
  ∀ v23 : Int, v23 = (if ¬ (x1 = 0) then 1 else 2) →
  ∀ u24 : CW, u24 = pI w 10 p v23 →
  (x1 = 0 →
    pC_X0_readLetters_184 p call Q X u24) ∧
  (¬ (x1 = 0) →
    (cz u24 + 1 ≤ mz u24 ∧ cu u24 + 4 ≤ mu u24) ∧
    ∀ u26 : CW, u26 = nO u24 31 4 →
    call 215 [ar (cz u24 + 1), ar (sr u26 0)] u26 (zqV (fun u28 =>
      ∀ x4_30 : Int, x4_30 = fI u28 11 p →
      pC_X0_readLetters_129 p call Q X (cz u24 + 1) x4_30 u28) zno))
def pC_X0_readLetters_7 (p : Nat) (call : Nat → List ZA → CW → (ZRes → CW → Prop) → Prop) (Q : CW → Prop) (X : Nat → CW → Prop) (x1 : Int) (x2 : Int) (w : CW) : Prop :=
  ∀ I7 : Int → CW → Prop, (∀ (x2 : Int) (w : CW), (
    call 6 [ar p, ai (fI w 9 p)] w (zqI (fun v3 u2 =>
      call 7 [ai v3] u2 (zqI (fun v5 u4 =>
        (v5 = 0 →
          call 6 [ar p, ai (fI u4 9 p)] u4 (zqI (fun v20 u19 =>
            call 9 [ai v20] u19 (zqI (fun v22 u21 =>
              (¬ (v22 = 0) ∨ (x2 = 0) →
                pC_X0_readLetters_39 p call Q X I7 x1 x2 u21) ∧
              (¬ (¬ (v22 = 0) ∨ (x2 = 0)) →
                pC_X0_readLetters_96 p call Q X x1 u21)) zno)) zno)) ∧
        (¬ (v5 = 0) →
          pC_X0_readLetters_39 p call Q X I7 x1 x2 u4)) zno)) zno)) → I7 x2 w) → I7 x2 w
def pC_X0_readLetters_0 (p : Nat) (call : Nat → List ZA → CW → (ZRes → CW → Prop) → Prop) (Q : CW → Prop) (X : Nat → CW → Prop) (x1 : Int) (w : CW) : Prop :=
  ∀ u1 : CW, u1 = pI w 12 p 0 →
  pC_X0_readLetters_7 p call Q X x1 0 u1
/-! LetterPost.isFigure(I)Z -/
def pC_X0_isFigure_0 (p : Nat) (call : Nat → List ZA → CW → (ZRes → CW → Prop) → Prop) (Q : Int → CW → Prop) (x0 : Int) (w : CW) : Prop :=
  ∀ v1 : Int, v1 = (if ¬ (x0 < 48) ∧ (¬ (57 < x0)) then 1 else 0) →
  Q v1 w
/-! LetterPost.need(ZII)V -/
def pC_X0_need_0 (p : Nat) (call : Nat → List ZA → CW → (ZRes → CW → Prop) → Prop) (Q : CW → Prop) (X : Nat → CW → Prop) (x1 : Int) (x2 : Int) (x3 : Int) (w : CW) : Prop :=
  (x1 = 0 →
    (cz w + 1 ≤ mz w ∧ cu w + 8 ≤ mu w) ∧
    ∀ u2 : CW, u2 = nO w 2 8 →
    call 81 [ar (cz w + 1), ai x2, ai x3] u2 (zqV (fun u4 =>
      X (cz w + 1) u4) zno)) ∧
  (¬ (x1 = 0) →
    Q w)
/-! LetterPost.quoted()V -/
def pC_X0_quoted_101 (p : Nat) (call : Nat → List ZA → CW → (ZRes → CW → Prop) → Prop) (Q : CW → Prop) (X : Nat → CW → Prop) (w : CW) : Prop :=
  ∀ u6 : CW, u6 = pI w 9 p (w32 ((fI w 9 p) + 1)) →
  ∀ u7 : CW, u7 = pI u6 10 p 4 →
  Q u7
def pC_X0_quoted_56 (p : Nat) (call : Nat → List ZA → CW → (ZRes → CW → Prop) → Prop) (Q : CW → Prop) (X : Nat → CW → Prop) (I17 : Int → CW → Prop) (x1 : Int) (s0 : Int) (s1 : Nat) (w : CW) : Prop :=
  (tg w s1 = 1) ∧
  call 10 [ar s1, ai s0, ai 1, ai (fI w 11 p)] w (zqV (fun u9 =>
    call 6 [ar p, ai (fI u9 9 p)] u9 (zqI (fun v12 u11 =>
      ∀ u13 : CW, u13 = pI u11 12 p (l_or (l_shl (fI u9 12 p) 8) v12) →
      ∀ x1_14 : Int, x1_14 = w32 (x1 + 1) →
      ∀ u15 : CW, u15 = pI u13 9 p (w32 ((fI u13 9 p) + 1)) →
      I17 x1_14 u15) zno)) (fun x16 u17 =>
    X x16 u17))
def pC_X0_quoted_55 (p : Nat) (call : Nat → List ZA → CW → (ZRes → CW → Prop) → Prop) (Q : CW → Prop) (X : Nat → CW → Prop) (I17 : Int → CW → Prop) (x1 : Int) (s0 : Nat) (w : CW) : Prop :=
  pC_X0_quoted_56 p call Q X I17 x1 0 s0 w
def pC_X0_quoted_17 (p : Nat) (call : Nat → List ZA → CW → (ZRes → CW → Prop) → Prop) (Q : CW → Prop) (X : Nat → CW → Prop) (x1 : Int) (w : CW) : Prop :=
  ∀ I17 : Int → CW → Prop, (∀ (x1 : Int) (w : CW), (
    call 6 [ar p, ai (fI w 9 p)] w (zqI (fun v4 u3 =>
      (v4 = 39 →
        pC_X0_quoted_101 p call Q X u3) ∧
      (¬ (v4 = 39) →
        (8 ≤ x1 →
          pC_X0_quoted_55 p call Q X I17 x1 p u3) ∧
        (¬ (8 ≤ x1) →
          call 6 [ar p, ai (fI u3 9 p)] u3 (zqI (fun v20 u19 =>
            call 7 [ai v20] u19 (zqI (fun v22 u21 =>
              (v22 = 0 →
                pC_X0_quoted_55 p call Q X I17 x1 p u21) ∧
              (¬ (v22 = 0) →
                pC_X0_quoted_56 p call Q X I17 x1 1 p u21)) zno)) zno)))) zno)) → I17 x1 w) → I17 x1 w
def pC_X0_quoted_0 (p : Nat) (call : Nat → List ZA → CW → (ZRes → CW → Prop) → Prop) (Q : CW → Prop) (X : Nat → CW → Prop) (w : CW) : Prop :=
  ∀ u1 : CW, u1 = pI w 9 p (w32 ((fI w 9 p) + 1)) →
  ∀ u2 : CW, u2 = pI u1 12 p 0 →
  pC_X0_quoted_17 p call Q X 0 u2
/-! LetterPost.isWord(Ljava/lang/String;)Z -/
def pC_X0_isWord_76 (p : Nat) (call : Nat → List ZA → CW → (ZRes → CW → Prop) → Prop) (Q : Int → CW → Prop) (x2 : Int) (w : CW) : Prop :=
  (x2 = 0 ∨ x2 = 1) ∧
  Q x2 w
def pC_X0_isWord_33 (p : Nat) (call : Nat → List ZA → CW → (ZRes → CW → Prop) → Prop) (Q : Int → CW → Prop) (x1 : Nat) (x2 : Int) (x3 : Int) (w : CW) : Prop :=
  ∀ I33 : Int → Int → CW → Prop, (∀ (x2 : Int) (x3 : Int) (w : CW), (
    (x2 = 0 →
      pC_X0_isWord_76 p call Q x2 w) ∧
    (¬ (x2 = 0) →
      (tg w x1 = 32 ∨ tg w x1 = 34) ∧
      call 221 [ar x1] w (zqI (fun v4 u3 =>
        (v4 ≤ x3 →
          pC_X0_isWord_76 p call Q x2 u3) ∧
        (¬ (v4 ≤ x3) →
          ((tg u3 (fR u3 7 p) = 101 ∨ tg u3 (fR u3 7 p) = 104 ∨ tg u3 (fR u3 7 p) = 106) ∧ 0 ≤ (w32 ((fI u3 11 p) + x3)) ∧ (w32 ((fI u3 11 p) + x3)) < ln u3 (fR u3 7 p)) ∧
          (tg u3 x1 = 32 ∨ tg u3 x1 = 34) ∧
          call 233 [ar x1, ai x3] u3 (zqI (fun v8 u7 =>
            ∀ v9 : Int, v9 = (if (aN u3 (fR u3 7 p) (w32 ((fI u3 11 p) + x3))) = v8 then 1 else 0) →
            ∀ x3_10 : Int, x3_10 = w32 (x3 + 1) →
            I33 v9 x3_10 u7) zno))) zno))) → I33 x2 x3 w) → I33 x2 x3 w
def pC_X0_isWord_30 (p : Nat) (call : Nat → List ZA → CW → (ZRes → CW → Prop) → Prop) (Q : Int → CW → Prop) (x1 : Nat) (s0 : Int) (w : CW) : Prop :=
  pC_X0_isWord_33 p call Q x1 s0 0 w
def pC_X0_isWord_29 (p : Nat) (call : Nat → List ZA → CW → (ZRes → CW → Prop) → Prop) (Q : Int → CW → Prop) (x1 : Nat) (w : CW) : Prop :=
  pC_X0_isWord_30 p call Q x1 0 w
def pC_X0_isWord_0 (p : Nat) (call : Nat → List ZA → CW → (ZRes → CW → Prop) → Prop) (Q : Int → CW → Prop) (x1 : Nat) (w : CW) : Prop :=
  ((fI w 10 p) = 6 →
    (tg w x1 = 32 ∨ tg w x1 = 34) ∧
    call 221 [ar x1] w (zqI (fun v18 u17 =>
      ((w32 ((fI w 9 p) - (fI w 11 p))) = v18 →
        pC_X0_isWord_30 p call Q x1 1 u17) ∧
      (¬ ((w32 ((fI w 9 p) - (fI w 11 p))) = v18) →
        pC_X0_isWord_29 p call Q x1 u17)) zno)) ∧
  (¬ ((fI w 10 p) = 6) →
    pC_X0_isWord_29 p call Q x1 w)
/-! LetterPost.readKind(Z)V -/
def pC_X0_readKind_341 (p : Nat) (call : Nat → List ZA → CW → (ZRes → CW → Prop) → Prop) (Q : CW → Prop) (X : Nat → CW → Prop) (w : CW) : Prop :=
  Q w
def pC_X0_readKind_320 (p : Nat) (call : Nat → List ZA → CW → (ZRes → CW → Prop) → Prop) (Q : CW → Prop) (X : Nat → CW → Prop) (x4 : Nat) (w : CW) : Prop :=
  call 16 [ar p, ai 59] w (zqI (fun v33 u32 =>
    call 14 [ar p, ai v33] u32 (zqV (fun u34 =>
      (x4 = 0 →
        pC_X0_readKind_341 p call Q X u34) ∧
      (¬ (x4 = 0) →
        (hP 40 (tg u34 x4) = true) ∧
        ∀ u37 : CW, u37 = pI u34 40 x4 1 →
        pC_X0_readKind_341 p call Q X u37)) (fun x39 u40 =>
      X x39 u40))) zno)
def pC_X0_readKind_314 (p : Nat) (call : Nat → List ZA → CW → (ZRes → CW → Prop) → Prop) (Q : CW → Prop) (X : Nat → CW → Prop) (x4 : Nat) (w : CW) : Prop :=
  call 18 [ar p, ai 41] w (zqV (fun u61 =>
    pC_X0_readKind_320 p call Q X x4 u61) (fun x63 u64 =>
    X x63 u64))
def pC_X0_readKind_243 (p : Nat) (call : Nat → List ZA → CW → (ZRes → CW → Prop) → Prop) (Q : CW → Prop) (X : Nat → CW → Prop) (x4 : Nat) (x5 : Nat) (w : CW) : Prop :=
  ∀ I243 : CW → Prop, (∀ (w : CW), (
    call 4 [ar p] w (zqV (fun u41 =>
      call 17 [ar p] u41 (zqI (fun v44 u43 =>
        (hF 42 (tg u43 x5) = true) ∧
        ∀ v46 : Int, v46 = (if ¬ (4 ≤ (fI u43 42 x5)) then 1 else 0) →
        call 10 [ar p, ai v46, ai 9, ai (fI u43 11 p)] u43 (zqV (fun u47 =>
          (hF 41 (tg u47 x5) = true) ∧
          (hF 42 (tg u47 x5) = true) ∧
          (tg u47 (fR u47 41 x5) = 102 ∧ 0 ≤ (fI u47 42 x5) ∧ (fI u47 42 x5) < ln u47 (fR u47 41 x5)) ∧
          ∀ u51 : CW, u51 = qI u47 (fR u47 41 x5) (fI u47 42 x5) v44 →
          (hF 42 (tg u51 x5) = true) ∧
          (hP 42 (tg u51 x5) = true) ∧
          ∀ u54 : CW, u54 = pI u51 42 x5 (w32 ((fI u51 42 x5) + 1)) →
          call 4 [ar p] u54 (zqV (fun u56 =>
            call 16 [ar p, ai 44] u56 (zqI (fun v59 u58 =>
              (v59 = 0 →
                pC_X0_readKind_314 p call Q X x4 u58) ∧
              (¬ (v59 = 0) →
                I243 u58)) zno)) (fun x65 u66 =>
            X x65 u66))) (fun x67 u68 =>
          X x67 u68))) (fun x71 u72 =>
        X x71 u72))) (fun x73 u74 =>
      X x73 u74))) → I243 w) → I243 w
def pC_X0_readKind_197 (p : Nat) (call : Nat → List ZA → CW → (ZRes → CW → Prop) → Prop) (Q : CW → Prop) (X : Nat → CW → Prop) (x2 : Int) (x4 : Nat) (w : CW) : Prop :=
  (cz w + 1 ≤ mz w ∧ cu w + 6 ≤ mu w) ∧
  ∀ u21 : CW, u21 = nO w 3 6 →
  call 82 [ar (cz w + 1), ai (fI u21 1 p), al x2, ar x4] u21 (zqV (fun u23 =>
    ((111 ≤ tg u23 (fR u23 0 p) ∧ tg u23 (fR u23 0 p) ≤ 119) ∧ 0 ≤ (fI u23 1 p) ∧ (fI u23 1 p) < ln u23 (fR u23 0 p)) ∧
    ((cz w + 1) = 0 ∨ zst (tg u23 (fR u23 0 p)) (tg u23 (cz w + 1)) = true) ∧
    ∀ u25 : CW, u25 = qR u23 (fR u23 0 p) (fI u23 1 p) (cz w + 1) →
    ∀ u28 : CW, u28 = pI u25 1 p (w32 ((fI u25 1 p) + 1)) →
    call 16 [ar p, ai 40] u28 (zqI (fun v30 u29 =>
      (v30 = 0 →
        pC_X0_readKind_320 p call Q X x4 u29) ∧
      (¬ (v30 = 0) →
        pC_X0_readKind_243 p call Q X x4 (cz w + 1) u29)) zno)) zno)
def pC_X0_readKind_97 (p : Nat) (call : Nat → List ZA → CW → (ZRes → CW → Prop) → Prop) (Q : CW → Prop) (X : Nat → CW → Prop) (x1 : Int) (x2 : Int) (x4 : Nat) (s0 : Int) (s1 : Nat) (w : CW) : Prop :=
  (tg w s1 = 1) ∧
  call 14 [ar s1, ai s0] w (zqV (fun u16 =>
    call 12 [ar p, ar (sr u16 4)] u16 (zqI (fun v19 u18 =>
      (v19 = 0 →
        pC_X0_readKind_197 p call Q X x2 x4 u18) ∧
      (¬ (v19 = 0) →
        call 4 [ar p] u18 (zqV (fun u75 =>
          ∀ v77 : Int, v77 = (if (fI u75 10 p) = 2 then 1 else 0) →
          call 14 [ar p, ai v77] u75 (zqV (fun u78 =>
            call 15 [ar p, al (fI u78 12 p)] u78 (zqR (fun v81 u80 =>
              ∀ v82 : Int, v82 = (if ¬ (v81 = 0) then 1 else 0) →
              call 10 [ar p, ai v82, ai 4, ai (fI u80 11 p)] u80 (zqV (fun u83 =>
                (hF 42 (tg u83 v81) = true) ∧
                (((fI u83 42 v81) = 0 → (¬ (x1 = 0) → (hF 40 (tg u83 v81) = true)))) ∧
                ∀ v86 : Int, v86 = (if ((fI u83 42 v81) = 0) ∧ ((x1 = 0) ∨ (¬ ((fI u83 40 v81) = 0))) then 1 else 0) →
                call 10 [ar p, ai v86, ai 5, ai (fI u83 11 p)] u83 (zqV (fun u88 =>
                  call 4 [ar p] u88 (zqV (fun u90 =>
                    pC_X0_readKind_197 p call Q X x2 v81 u90) (fun x92 u93 =>
                    X x92 u93))) (fun x94 u95 =>
                  X x94 u95))) (fun x100 u101 =>
                X x100 u101))) zno)) (fun x104 u105 =>
            X x104 u105))) (fun x108 u109 =>
          X x108 u109)))) zno)) (fun x110 u111 =>
    X x110 u111))
def pC_X0_readKind_92 (p : Nat) (call : Nat → List ZA → CW → (ZRes → CW → Prop) → Prop) (Q : CW → Prop) (X : Nat → CW → Prop) (x1 : Int) (x2 : Int) (x4 : Nat) (s0 : Nat) (w : CW) : Prop :=
  pC_X0_readKind_97 p call Q X x1 x2 x4 1 s0 w
def pC_X0_readKind_0 (p : Nat) (call : Nat → List ZA → CW → (ZRes → CW → Prop) → Prop) (Q : CW → Prop) (X : Nat → CW → Prop) (x1 : Int) (w : CW) : Prop :=
  ∀ v1 : Int, v1 = (if (fI w 10 p) = 2 then 1 else 0) →
  call 14 [ar p, ai v1] w (zqV (fun u2 =>
    call 15 [ar p, al (fI u2 12 p)] u2 (zqR (fun v5 u4 =>
      ∀ v6 : Int, v6 = (if v5 = 0 then 1 else 0) →
      call 10 [ar p, ai v6, ai 3, ai (fI u4 11 p)] u4 (zqV (fun u7 =>
        ∀ v9 : Int, v9 = (if ¬ (24 ≤ (fI u7 1 p)) then 1 else 0) →
        call 10 [ar p, ai v9, ai 9, ai (fI u7 11 p)] u7 (zqV (fun u10 =>
          ∀ x2_12 : Int, x2_12 = fI u10 12 p →
          call 4 [ar p] u10 (zqV (fun u13 =>
            (x1 = 0 →
              pC_X0_readKind_92 p call Q X x1 x2_12 0 p u13) ∧
            (¬ (x1 = 0) →
              call 12 [ar p, ar (sr u13 4)] u13 (zqI (fun v114 u113 =>
                (v114 = 0 →
                  pC_X0_readKind_97 p call Q X x1 x2_12 0 0 p u113) ∧
                (¬ (v114 = 0) →
                  pC_X0_readKind_92 p call Q X x1 x2_12 0 p u113)) zno))) (fun x116 u117 =>
            X x116 u117))) (fun x118 u119 =>
          X x118 u119))) (fun x122 u123 =>
        X x122 u123))) zno)) (fun x126 u127 =>
    X x126 u127))
/-! LetterPost.want(Z)V -/
def pC_X0_want_0 (p : Nat) (call : Nat → List ZA → CW → (ZRes → CW → Prop) → Prop) (Q : CW → Prop) (X : Nat → CW → Prop) (x1 : Int) (w : CW) : Prop :=
  call 10 [ar p, ai x1, ai 2, ai (fI w 11 p)] w (zqV (fun u1 =>
    Q u1) (fun x3 u4 =>
    X x3 u4))
/-! LetterPost.named(J)LLetterPost$Kind; -/
def pC_X0_named_37 (p : Nat) (call : Nat → List ZA → CW → (ZRes → CW → Prop) → Prop) (Q : Nat → CW → Prop) (w : CW) : Prop :=
  Q 0 w
def pC_X0_named_24 (p : Nat) (call : Nat → List ZA → CW → (ZRes → CW → Prop) → Prop) (Q : Nat → CW → Prop) (x3 : Int) (w : CW) : Prop :=
  ((111 ≤ tg w (fR w 0 p) ∧ tg w (fR w 0 p) ≤ 119) ∧ 0 ≤ x3 ∧ x3 < ln w (fR w 0 p)) ∧
  Q (aR w (fR w 0 p) x3) w
def pC_X0_named_2 (p : Nat) (call : Nat → List ZA → CW → (ZRes → CW → Prop) → Prop) (Q : Nat → CW → Prop) (x1 : Int) (x3 : Int) (w : CW) : Prop :=
  ∀ I2 : Int → CW → Prop, (∀ (x3 : Int) (w : CW), (
    ((fI w 1 p) ≤ x3 →
      pC_X0_named_37 p call Q w) ∧
    (¬ ((fI w 1 p) ≤ x3) →
      ((111 ≤ tg w (fR w 0 p) ∧ tg w (fR w 0 p) ≤ 119) ∧ 0 ≤ x3 ∧ x3 < ln w (fR w 0 p)) ∧
      (hF 38 (tg w (aR w (fR w 0 p) x3)) = true) ∧
      ((fI w 38 (aR w (fR w 0 p) x3)) = x1 →
        pC_X0_named_24 p call Q x3 w) ∧
      (¬ ((fI w 38 (aR w (fR w 0 p) x3)) = x1) →
        ∀ x3_5 : Int, x3_5 = w32 (x3 + 1) →
        I2 x3_5 w))) → I2 x3 w) → I2 x3 w
def pC_X0_named_0 (p : Nat) (call : Nat → List ZA → CW → (ZRes → CW → Prop) → Prop) (Q : Nat → CW → Prop) (x1 : Int) (w : CW) : Prop :=
  pC_X0_named_2 p call Q x1 0 w
/-! LetterPost.isSign(I)Z -/
def pC_X0_isSign_0 (p : Nat) (call : Nat → List ZA → CW → (ZRes → CW → Prop) → Prop) (Q : Int → CW → Prop) (x1 : Int) (w : CW) : Prop :=
  ∀ v1 : Int, v1 = (if ((fI w 10 p) = 5) ∧ ((fI w 14 p) = x1) then 1 else 0) →
  Q v1 w
/-! LetterPost.readSort()I -/
def pC_X0_readSort_109 (p : Nat) (call : Nat → List ZA → CW → (ZRes → CW → Prop) → Prop) (Q : Int → CW → Prop) (X : Nat → CW → Prop) (x1 : Int) (w : CW) : Prop :=
  Q x1 w
def pC_X0_readSort_108 (p : Nat) (call : Nat → List ZA → CW → (ZRes → CW → Prop) → Prop) (Q : Int → CW → Prop) (X : Nat → CW → Prop) (s0 : Int) (w : CW) : Prop :=
  pC_X0_readSort_109 p call Q X s0 w
def pC_X0_readSort_78 (p : Nat) (call : Nat → List ZA → CW → (ZRes → CW → Prop) → Prop) (Q : Int → CW → Prop) (X : Nat → CW → Prop) (s0 : Int) (s1 : Nat) (w : CW) : Prop :=
  (tg w s1 = 1) ∧
  call 14 [ar s1, ai s0] w (zqV (fun u5 =>
    call 12 [ar p, ar (sr u5 5)] u5 (zqI (fun v8 u7 =>
      (v8 = 0 →
        call 12 [ar p, ar (sr u7 6)] u7 (zqI (fun v11 u10 =>
          (v11 = 0 →
            pC_X0_readSort_108 p call Q X 2 u10) ∧
          (¬ (v11 = 0) →
            pC_X0_readSort_108 p call Q X 1 u10)) zno)) ∧
      (¬ (v8 = 0) →
        pC_X0_readSort_108 p call Q X 0 u7)) zno)) (fun x13 u14 =>
    X x13 u14))
def pC_X0_readSort_73 (p : Nat) (call : Nat → List ZA → CW → (ZRes → CW → Prop) → Prop) (Q : Int → CW → Prop) (X : Nat → CW → Prop) (s0 : Nat) (w : CW) : Prop :=
  pC_X0_readSort_78 p call Q X 1 s0 w
def pC_X0_readSort_0 (p : Nat) (call : Nat → List ZA → CW → (ZRes → CW → Prop) → Prop) (Q : Int → CW → Prop) (X : Nat → CW → Prop) (w : CW) : Prop :=
  ((fI w 10 p) = 2 →
    call 15 [ar p, al (fI w 12 p)] w (zqR (fun v23 u22 =>
      ∀ v24 : Int, v24 = (if ¬ (v23 = 0) then 1 else 0) →
      call 10 [ar p, ai v24, ai 4, ai (fI u22 11 p)] u22 (zqV (fun u25 =>
        (hF 37 (tg u25 v23) = true) ∧
        ∀ x1_28 : Int, x1_28 = w32 (3 + (fI u25 37 v23)) →
        pC_X0_readSort_109 p call Q X x1_28 u25) (fun x29 u30 =>
        X x29 u30))) zno)) ∧
  (¬ ((fI w 10 p) = 2) →
    call 12 [ar p, ar (sr w 5)] w (zqI (fun v3 u2 =>
      (v3 = 0 →
        call 12 [ar p, ar (sr u2 6)] u2 (zqI (fun v17 u16 =>
          (v17 = 0 →
            call 12 [ar p, ar (sr u16 7)] u16 (zqI (fun v20 u19 =>
              (v20 = 0 →
                pC_X0_readSort_78 p call Q X 0 p u19) ∧
              (¬ (v20 = 0) →
                pC_X0_readSort_73 p call Q X p u19)) zno)) ∧
          (¬ (v17 = 0) →
            pC_X0_readSort_73 p call Q X p u16)) zno)) ∧
      (¬ (v3 = 0) →
        pC_X0_readSort_73 p call Q X p u2)) zno))
/-! LetterPost.skip(I)V -/
def pC_X0_skip_0 (p : Nat) (call : Nat → List ZA → CW → (ZRes → CW → Prop) → Prop) (Q : CW → Prop) (X : Nat → CW → Prop) (x1 : Int) (w : CW) : Prop :=
  call 16 [ar p, ai x1] w (zqI (fun v2 u1 =>
    call 14 [ar p, ai v2] u1 (zqV (fun u3 =>
      call 4 [ar p] u3 (zqV (fun u5 =>
        Q u5) (fun x7 u8 =>
        X x7 u8))) (fun x9 u10 =>
      X x9 u10))) zno)
/-! LetterPost.readFunction()V -/
def pC_X0_readFunction_223 (p : Nat) (call : Nat → List ZA → CW → (ZRes → CW → Prop) → Prop) (Q : CW → Prop) (X : Nat → CW → Prop) (w : CW) : Prop :=
  call 4 [ar p] w (zqV (fun u59 =>
    Q u59) (fun x61 u62 =>
    X x61 u62))
def pC_X0_readFunction_206 (p : Nat) (call : Nat → List ZA → CW → (ZRes → CW → Prop) → Prop) (Q : CW → Prop) (X : Nat → CW → Prop) (x1 : Nat) (w : CW) : Prop :=
  ∀ I206 : CW → Prop, (∀ (w : CW), (
    call 16 [ar p, ai 125] w (zqI (fun v57 u56 =>
      (v57 = 0 →
        call 21 [ar p, ar x1] u56 (zqV (fun u63 =>
          I206 u63) (fun x65 u66 =>
          X x65 u66))) ∧
      (¬ (v57 = 0) →
        pC_X0_readFunction_223 p call Q X u56)) zno)) → I206 w) → I206 w
def pC_X0_readFunction_186 (p : Nat) (call : Nat → List ZA → CW → (ZRes → CW → Prop) → Prop) (Q : CW → Prop) (X : Nat → CW → Prop) (x1 : Nat) (w : CW) : Prop :=
  call 18 [ar p, ai 41] w (zqV (fun u48 =>
    call 16 [ar p, ai 123] u48 (zqI (fun v51 u50 =>
      call 14 [ar p, ai v51] u50 (zqV (fun u52 =>
        call 4 [ar p] u52 (zqV (fun u54 =>
          pC_X0_readFunction_206 p call Q X x1 u54) (fun x67 u68 =>
          X x67 u68))) (fun x69 u70 =>
        X x69 u70))) zno)) (fun x71 u72 =>
    X x71 u72))
def pC_X0_readFunction_121 (p : Nat) (call : Nat → List ZA → CW → (ZRes → CW → Prop) → Prop) (Q : CW → Prop) (X : Nat → CW → Prop) (x1 : Nat) (w : CW) : Prop :=
  ∀ I121 : CW → Prop, (∀ (w : CW), (
    call 4 [ar p] w (zqV (fun u28 =>
      call 17 [ar p] u28 (zqI (fun v31 u30 =>
        (hF 46 (tg u30 x1) = true) ∧
        ∀ v33 : Int, v33 = (if ¬ (3 ≤ (fI u30 46 x1)) then 1 else 0) →
        call 10 [ar p, ai v33, ai 9, ai (fI u30 11 p)] u30 (zqV (fun u34 =>
          (hF 45 (tg u34 x1) = true) ∧
          (hF 46 (tg u34 x1) = true) ∧
          (tg u34 (fR u34 45 x1) = 102 ∧ 0 ≤ (fI u34 46 x1) ∧ (fI u34 46 x1) < ln u34 (fR u34 45 x1)) ∧
          ∀ u38 : CW, u38 = qI u34 (fR u34 45 x1) (fI u34 46 x1) v31 →
          (hF 46 (tg u38 x1) = true) ∧
          (hP 46 (tg u38 x1) = true) ∧
          ∀ u41 : CW, u41 = pI u38 46 x1 (w32 ((fI u38 46 x1) + 1)) →
          call 4 [ar p] u41 (zqV (fun u43 =>
            call 16 [ar p, ai 44] u43 (zqI (fun v46 u45 =>
              (v46 = 0 →
                pC_X0_readFunction_186 p call Q X x1 u45) ∧
              (¬ (v46 = 0) →
                I121 u45)) zno)) (fun x73 u74 =>
            X x73 u74))) (fun x75 u76 =>
          X x75 u76))) (fun x79 u80 =>
        X x79 u80))) (fun x81 u82 =>
      X x81 u82))) → I121 w) → I121 w
def pC_X0_readFunction_0 (p : Nat) (call : Nat → List ZA → CW → (ZRes → CW → Prop) → Prop) (Q : CW → Prop) (X : Nat → CW → Prop) (w : CW) : Prop :=
  call 4 [ar p] w (zqV (fun u1 =>
    ∀ v3 : Int, v3 = (if (fI u1 10 p) = 1 then 1 else 0) →
    call 14 [ar p, ai v3] u1 (zqV (fun u4 =>
      call 20 [ar p, al (fI u4 12 p)] u4 (zqR (fun v7 u6 =>
        ∀ v8 : Int, v8 = (if v7 = 0 then 1 else 0) →
        call 10 [ar p, ai v8, ai 3, ai (fI u6 11 p)] u6 (zqV (fun u9 =>
          ∀ v11 : Int, v11 = (if ¬ (12 ≤ (fI u9 6 p)) then 1 else 0) →
          call 10 [ar p, ai v11, ai 9, ai (fI u9 11 p)] u9 (zqV (fun u12 =>
            (cz u12 + 1 ≤ mz u12 ∧ cu u12 + 13 ≤ mu u12) ∧
            ∀ u14 : CW, u14 = nO u12 4 13 →
            call 84 [ar (cz u12 + 1), ar p, ai (fI u14 6 p), al (fI u14 12 p)] u14 (zqV (fun u16 =>
              ((111 ≤ tg u16 (fR u16 5 p) ∧ tg u16 (fR u16 5 p) ≤ 119) ∧ 0 ≤ (fI u16 6 p) ∧ (fI u16 6 p) < ln u16 (fR u16 5 p)) ∧
              ((cz u12 + 1) = 0 ∨ zst (tg u16 (fR u16 5 p)) (tg u16 (cz u12 + 1)) = true) ∧
              ∀ u18 : CW, u18 = qR u16 (fR u16 5 p) (fI u16 6 p) (cz u12 + 1) →
              ∀ u21 : CW, u21 = pI u18 6 p (w32 ((fI u18 6 p) + 1)) →
              call 4 [ar p] u21 (zqV (fun u22 =>
                call 16 [ar p, ai 40] u22 (zqI (fun v25 u24 =>
                  call 14 [ar p, ai v25] u24 (zqV (fun u26 =>
                    pC_X0_readFunction_121 p call Q X (cz u12 + 1) u26) (fun x83 u84 =>
                    X x83 u84))) zno)) (fun x85 u86 =>
                X x85 u86))) zno)) (fun x87 u88 =>
            X x87 u88))) (fun x91 u92 =>
          X x91 u92))) zno)) (fun x95 u96 =>
      X x95 u96))) (fun x99 u100 =>
    X x99 u100))
/-! LetterPost.functionOf(J)LLetterPost$Function; -/
def pC_X0_functionOf_37 (p : Nat) (call : Nat → List ZA → CW → (ZRes → CW → Prop) → Prop) (Q : Nat → CW → Prop) (w : CW) : Prop :=
  Q 0 w
def pC_X0_functionOf_24 (p : Nat) (call : Nat → List ZA → CW → (ZRes → CW → Prop) → Prop) (Q : Nat → CW → Prop) (x3 : Int) (w : CW) : Prop :=
  ((111 ≤ tg w (fR w 5 p) ∧ tg w (fR w 5 p) ≤ 119) ∧ 0 ≤ x3 ∧ x3 < ln w (fR w 5 p)) ∧
  Q (aR w (fR w 5 p) x3) w
def pC_X0_functionOf_2 (p : Nat) (call : Nat → List ZA → CW → (ZRes → CW → Prop) → Prop) (Q : Nat → CW → Prop) (x1 : Int) (x3 : Int) (w : CW) : Prop :=
  ∀ I2 : Int → CW → Prop, (∀ (x3 : Int) (w : CW), (
    ((fI w 6 p) ≤ x3 →
      pC_X0_functionOf_37 p call Q w) ∧
    (¬ ((fI w 6 p) ≤ x3) →
      ((111 ≤ tg w (fR w 5 p) ∧ tg w (fR w 5 p) ≤ 119) ∧ 0 ≤ x3 ∧ x3 < ln w (fR w 5 p)) ∧
      (hF 44 (tg w (aR w (fR w 5 p) x3)) = true) ∧
      ((fI w 44 (aR w (fR w 5 p) x3)) = x1 →
        pC_X0_functionOf_24 p call Q x3 w) ∧
      (¬ ((fI w 44 (aR w (fR w 5 p) x3)) = x1) →
        ∀ x3_5 : Int, x3_5 = w32 (x3 + 1) →
        I2 x3_5 w))) → I2 x3 w) → I2 x3 w
def pC_X0_functionOf_0 (p : Nat) (call : Nat → List ZA → CW → (ZRes → CW → Prop) → Prop) (Q : Nat → CW → Prop) (x1 : Int) (w : CW) : Prop :=
  pC_X0_functionOf_2 p call Q x1 0 w
/-! LetterPost.rule(LLetterPost$Function;)V -/
def pC_X0_rule_159 (p : Nat) (call : Nat → List ZA → CW → (ZRes → CW → Prop) → Prop) (Q : CW → Prop) (X : Nat → CW → Prop) (x1 : Nat) (x2 : Nat) (s0 : Nat) (s1 : Nat) (w : CW) : Prop :=
  (hP 59 (tg w s1) = true) ∧
  ∀ u27 : CW, u27 = pR w 59 s1 s0 →
  call 18 [ar p, ai 58] u27 (zqV (fun u29 =>
    call 39 [ar p, ar x2] u29 (zqV (fun u31 =>
      call 18 [ar p, ai 59] u31 (zqV (fun u33 =>
        (hF 67 (tg u33 x2) = true) ∧
        ((0 ≤ (0 : Int) ∧ 0 ≤ (0 : Int) ∧ 0 ≤ (8 : Int) ∧ (0 : Int) + (8 : Int) ≤ ln u33 (fR u33 16 p) ∧ (0 : Int) + (8 : Int) ≤ ln u33 (fR u33 67 x2)) ∧ cpOk u33 (fR u33 16 p) 0 (fR u33 67 x2) 8) ∧
        ∀ u36 : CW, u36 = qC u33 (fR u33 16 p) 0 (fR u33 67 x2) 0 8 →
        (hF 47 (tg u36 x1) = true) ∧
        (hF 48 (tg u36 x1) = true) ∧
        ((111 ≤ tg u36 (fR u36 47 x1) ∧ tg u36 (fR u36 47 x1) ≤ 119) ∧ 0 ≤ (fI u36 48 x1) ∧ (fI u36 48 x1) < ln u36 (fR u36 47 x1)) ∧
        (x2 = 0 ∨ zst (tg u36 (fR u36 47 x1)) (tg u36 x2) = true) ∧
        ∀ u40 : CW, u40 = qR u36 (fR u36 47 x1) (fI u36 48 x1) x2 →
        (hF 48 (tg u40 x1) = true) ∧
        (hP 48 (tg u40 x1) = true) ∧
        ∀ u44 : CW, u44 = pI u40 48 x1 (w32 ((fI u40 48 x1) + 1)) →
        Q u44) (fun x46 u47 =>
        X x46 u47))) (fun x48 u49 =>
      X x48 u49))) (fun x50 u51 =>
    X x50 u51))
def pC_X0_rule_116 (p : Nat) (call : Nat → List ZA → CW → (ZRes → CW → Prop) → Prop) (Q : CW → Prop) (X : Nat → CW → Prop) (x1 : Nat) (x2 : Nat) (w : CW) : Prop :=
  call 16 [ar p, ai 44] w (zqI (fun v20 u19 =>
    ∀ v21 : Int, v21 = (if v20 = 0 then 1 else 0) →
    call 10 [ar p, ai v21, ai 6, ai (fI u19 11 p)] u19 (zqV (fun u22 =>
      call 12 [ar p, ar (sr u22 13)] u22 (zqI (fun v25 u24 =>
        (v25 = 0 →
          pC_X0_rule_159 p call Q X x1 x2 0 x2 u24) ∧
        (¬ (v25 = 0) →
          call 34 [ar p] u24 (zqR (fun v53 u52 =>
            pC_X0_rule_159 p call Q X x1 x2 v53 x2 u52) (fun x54 u55 =>
            X x54 u55)))) zno)) (fun x56 u57 =>
      X x56 u57))) zno)
def pC_X0_rule_94 (p : Nat) (call : Nat → List ZA → CW → (ZRes → CW → Prop) → Prop) (Q : CW → Prop) (X : Nat → CW → Prop) (I62 : Int → CW → Prop) (x1 : Nat) (x2 : Nat) (x3 : Int) (w : CW) : Prop :=
  (hF 58 (tg w x2) = true) ∧
  (hF 45 (tg w x1) = true) ∧
  (tg w (fR w 45 x1) = 102 ∧ 0 ≤ x3 ∧ x3 < ln w (fR w 45 x1)) ∧
  call 22 [ar p, ai (aN w (fR w 45 x1) x3)] w (zqR (fun v65 u64 =>
    ((111 ≤ tg u64 (fR w 58 x2) ∧ tg u64 (fR w 58 x2) ≤ 119) ∧ 0 ≤ x3 ∧ x3 < ln u64 (fR w 58 x2)) ∧
    (v65 = 0 ∨ zst (tg u64 (fR w 58 x2)) (tg u64 v65) = true) ∧
    ∀ u66 : CW, u66 = qR u64 (fR w 58 x2) x3 v65 →
    ∀ x3_69 : Int, x3_69 = w32 (x3 + 1) →
    I62 x3_69 u66) (fun x70 u71 =>
    X x70 u71))
def pC_X0_rule_62 (p : Nat) (call : Nat → List ZA → CW → (ZRes → CW → Prop) → Prop) (Q : CW → Prop) (X : Nat → CW → Prop) (x1 : Nat) (x2 : Nat) (x3 : Int) (w : CW) : Prop :=
  ∀ I62 : Int → CW → Prop, (∀ (x3 : Int) (w : CW), (
    (hF 46 (tg w x1) = true) ∧
    ((fI w 46 x1) ≤ x3 →
      pC_X0_rule_116 p call Q X x1 x2 w) ∧
    (¬ ((fI w 46 x1) ≤ x3) →
      (x3 ≤ 0 →
        pC_X0_rule_94 p call Q X I62 x1 x2 x3 w) ∧
      (¬ (x3 ≤ 0) →
        call 16 [ar p, ai 44] w (zqI (fun v73 u72 =>
          call 10 [ar p, ai v73, ai 6, ai (fI u72 11 p)] u72 (zqV (fun u74 =>
            call 4 [ar p] u74 (zqV (fun u76 =>
              pC_X0_rule_94 p call Q X I62 x1 x2 x3 u76) (fun x78 u79 =>
              X x78 u79))) (fun x80 u81 =>
            X x80 u81))) zno)))) → I62 x3 w) → I62 x3 w
def pC_X0_rule_0 (p : Nat) (call : Nat → List ZA → CW → (ZRes → CW → Prop) → Prop) (Q : CW → Prop) (X : Nat → CW → Prop) (x1 : Nat) (w : CW) : Prop :=
  ∀ u1 : CW, u1 = pI w 17 p 0 →
  ∀ u2 : CW, u2 = pI u1 18 p 0 →
  ∀ u3 : CW, u3 = pI u2 19 p 0 →
  (cz u3 + 1 ≤ mz u3 ∧ cu u3 + 12 ≤ mu u3) ∧
  ∀ u4 : CW, u4 = nO u3 5 12 →
  (hF 48 (tg u4 x1) = true) ∧
  call 90 [ar (cz u3 + 1), ai (fI u4 48 x1), ai (fI u4 11 p)] u4 (zqV (fun u7 =>
    (hF 46 (tg u7 x1) = true) ∧
    ((0 ≤ (fI u7 46 x1) ∧ (fI u7 46 x1) ≤ 1000000) ∧ cz u7 + 1 ≤ mz u7 ∧ cu u7 + Int.toNat (fI u7 46 x1) ≤ mu u7) ∧
    ∀ u10 : CW, u10 = nA u7 114 (Int.toNat (fI u7 46 x1)) →
    (hP 58 (tg u10 (cz u3 + 1)) = true) ∧
    ∀ u12 : CW, u12 = pR u10 58 (cz u3 + 1) (cz u7 + 1) →
    (hF 48 (tg u12 x1) = true) ∧
    ∀ v15 : Int, v15 = (if (fI u12 48 x1) = 16 then 1 else 0) →
    ∀ u16 : CW, u16 = pI u12 20 p v15 →
    pC_X0_rule_62 p call Q X x1 (cz u3 + 1) 0 u16) zno)
/-! LetterPost.pattern(I)LLetterPost$Pattern; -/
def pC_X0_pattern_118 (p : Nat) (call : Nat → List ZA → CW → (ZRes → CW → Prop) → Prop) (Q : Nat → CW → Prop) (X : Nat → CW → Prop) (x3 : Nat) (w : CW) : Prop :=
  Q x3 w
def pC_X0_pattern_0 (p : Nat) (call : Nat → List ZA → CW → (ZRes → CW → Prop) → Prop) (Q : Nat → CW → Prop) (X : Nat → CW → Prop) (x1 : Int) (w : CW) : Prop :=
  ∀ v1 : Int, v1 = (if ¬ ((fI w 20 p) = 0) ∨ (¬ ((fI w 19 p) < 6)) then 1 else 0) →
  ∀ u2 : CW, u2 = pI w 20 p 0 →
  call 23 [ar p, ai x1, ai v1] u2 (zqR (fun v4 u3 =>
    call 12 [ar p, ar (sr u3 12)] u3 (zqI (fun v6 u5 =>
      (v6 = 0 →
        pC_X0_pattern_118 p call Q X v4 u5) ∧
      (¬ (v6 = 0) →
        call 4 [ar p] u5 (zqV (fun u8 =>
          ∀ v10 : Int, v10 = (if (fI u8 10 p) = 1 then 1 else 0) →
          call 14 [ar p, ai v10] u8 (zqV (fun u11 =>
            call 33 [ar p, ai x1] u11 (zqI (fun v14 u13 =>
              call 4 [ar p] u13 (zqV (fun u15 =>
                (cz u15 + 1 ≤ mz u15 ∧ cu u15 + 2 ≤ mu u15) ∧
                ∀ u17 : CW, u17 = nO u15 9 2 →
                ((0 ≤ (1 : Int) ∧ (1 : Int) ≤ 1000000) ∧ cz u17 + 1 ≤ mz u17 ∧ cu u17 + Int.toNat 1 ≤ mu u17) ∧
                ∀ u19 : CW, u19 = nA u17 114 (Int.toNat 1) →
                ((111 ≤ tg u19 (cz u17 + 1) ∧ tg u19 (cz u17 + 1) ≤ 119) ∧ 0 ≤ (0 : Int) ∧ (0 : Int) < ln u19 (cz u17 + 1)) ∧
                (v4 = 0 ∨ zst (tg u19 (cz u17 + 1)) (tg u19 v4) = true) ∧
                ∀ u21 : CW, u21 = qR u19 (cz u17 + 1) 0 v4 →
                call 107 [ar (cz u15 + 1), ar (cz u17 + 1)] u21 (zqV (fun u24 =>
                  (hF 68 (tg u24 v4) = true) ∧
                  (0 ≤ (fI u24 68 v4) →
                    (hP 68 (tg u24 (cz u15 + 1)) = true) ∧
                    ∀ u28 : CW, u28 = pI u24 68 (cz u15 + 1) v14 →
                    pC_X0_pattern_118 p call Q X (cz u15 + 1) u28) ∧
                  (¬ (0 ≤ (fI u24 68 v4)) →
                    (hP 68 (tg u24 v4) = true) ∧
                    ∀ u30 : CW, u30 = pI u24 68 v4 v14 →
                    pC_X0_pattern_118 p call Q X v4 u30)) zno)) (fun x32 u33 =>
                X x32 u33))) (fun x34 u35 =>
              X x34 u35))) (fun x36 u37 =>
            X x36 u37))) (fun x40 u41 =>
          X x40 u41)))) zno)) (fun x42 u43 =>
    X x42 u43))
/-! LetterPost.plain(IZ)LLetterPost$Pattern; -/
def pC_X0_plain_118 (p : Nat) (call : Nat → List ZA → CW → (ZRes → CW → Prop) → Prop) (Q : Nat → CW → Prop) (X : Nat → CW → Prop) (x1 : Int) (x2 : Int) (x3 : Int) (w : CW) : Prop :=
  ∀ v7 : Int, v7 = (if x1 = 0 then 1 else 0) →
  call 10 [ar p, ai v7, ai 5, ai x3] w (zqV (fun u8 =>
    ∀ v10 : Int, v10 = (if x2 = 0 then 1 else 0) →
    call 10 [ar p, ai v10, ai 9, ai x3] u8 (zqV (fun u11 =>
      call 26 [ar p, ai x3] u11 (zqR (fun v14 u13 =>
        Q v14 u13) (fun x15 u16 =>
        X x15 u16))) (fun x17 u18 =>
      X x17 u18))) (fun x21 u22 =>
    X x21 u22))
def pC_X0_plain_322 (p : Nat) (call : Nat → List ZA → CW → (ZRes → CW → Prop) → Prop) (Q : Nat → CW → Prop) (X : Nat → CW → Prop) (x2 : Int) (x3 : Int) (x4 : Nat) (w : CW) : Prop :=
  ∀ v45 : Int, v45 = (if x2 = 0 then 1 else 0) →
  call 10 [ar p, ai v45, ai 9, ai x3] w (zqV (fun u46 =>
    call 4 [ar p] u46 (zqV (fun u48 =>
      Q x4 u48) (fun x50 u51 =>
      X x50 u51))) (fun x52 u53 =>
    X x52 u53))
def pC_X0_plain_259 (p : Nat) (call : Nat → List ZA → CW → (ZRes → CW → Prop) → Prop) (Q : Nat → CW → Prop) (X : Nat → CW → Prop) (x1 : Int) (x2 : Int) (x3 : Int) (w : CW) : Prop :=
  ∀ v36 : Int, v36 = (if x1 = 1 then 1 else 0) →
  call 10 [ar p, ai v36, ai 5, ai x3] w (zqV (fun u37 =>
    (cz u37 + 1 ≤ mz u37 ∧ cu u37 + 2 ≤ mu u37) ∧
    ∀ u39 : CW, u39 = nO u37 11 2 →
    call 12 [ar p, ar (sr u39 9)] u39 (zqI (fun v42 u41 =>
      call 114 [ar (cz u37 + 1), ai v42] u41 (zqV (fun u43 =>
        pC_X0_plain_322 p call Q X x2 x3 (cz u37 + 1) u43) zno)) zno)) (fun x56 u57 =>
    X x56 u57))
def pC_X0_plain_0 (p : Nat) (call : Nat → List ZA → CW → (ZRes → CW → Prop) → Prop) (Q : Nat → CW → Prop) (X : Nat → CW → Prop) (x1 : Int) (x2 : Int) (w : CW) : Prop :=
  ∀ x3_1 : Int, x3_1 = fI w 11 p →
  ((fI w 10 p) = 1 →
    (cz w + 1 ≤ mz w ∧ cu w + 1 ≤ mu w) ∧
    ∀ u120 : CW, u120 = nO w 6 1 →
    call 95 [ar (cz w + 1)] u120 (zqV (fun u122 =>
      call 24 [ar p, ai x1] u122 (zqI (fun v125 u124 =>
        ∀ v126 : Int, v126 = (if x2 = 0 then 1 else 0) →
        call 10 [ar p, ai v126, ai 9, ai x3_1] u124 (zqV (fun u127 =>
          call 25 [ar p, ai v125, ai x1] u127 (zqI (fun v130 u129 =>
            (hP 68 (tg u129 (cz w + 1)) = true) ∧
            ∀ u131 : CW, u131 = pI u129 68 (cz w + 1) v130 →
            call 4 [ar p] u131 (zqV (fun u133 =>
              Q (cz w + 1) u133) (fun x135 u136 =>
              X x135 u136))) (fun x137 u138 =>
            X x137 u138))) (fun x139 u140 =>
          X x139 u140))) (fun x143 u144 =>
        X x143 u144))) zno)) ∧
  (¬ ((fI w 10 p) = 1) →
    call 16 [ar p, ai 95] w (zqI (fun v4 u3 =>
      (v4 = 0 →
        ((fI u3 10 p) = 3 →
          pC_X0_plain_118 p call Q X x1 x2 x3_1 u3) ∧
        (¬ ((fI u3 10 p) = 3) →
          call 16 [ar p, ai 45] u3 (zqI (fun v26 u25 =>
            (v26 = 0 →
              ((fI u25 10 p) = 2 →
                call 29 [ar p, ai x1, ai x2] u25 (zqR (fun v102 u101 =>
                  Q v102 u101) (fun x103 u104 =>
                  X x103 u104))) ∧
              (¬ ((fI u25 10 p) = 2) →
                call 16 [ar p, ai 40] u25 (zqI (fun v30 u29 =>
                  (v30 = 0 →
                    ((fI u29 10 p) = 4 →
                      ∀ v79 : Int, v79 = (if x1 = 2 then 1 else 0) →
                      call 10 [ar p, ai v79, ai 5, ai x3_1] u29 (zqV (fun u80 =>
                        (cz u80 + 1 ≤ mz u80 ∧ cu u80 + 2 ≤ mu u80) ∧
                        ∀ u82 : CW, u82 = nO u80 10 2 →
                        call 111 [ar (cz u80 + 1), al (fI u82 12 p)] u82 (zqV (fun u84 =>
                          pC_X0_plain_322 p call Q X x2 x3_1 (cz u80 + 1) u84) zno)) (fun x86 u87 =>
                        X x86 u87))) ∧
                    (¬ ((fI u29 10 p) = 4) →
                      call 12 [ar p, ar (sr u29 9)] u29 (zqI (fun v34 u33 =>
                        (v34 = 0 →
                          call 12 [ar p, ar (sr u33 10)] u33 (zqI (fun v61 u60 =>
                            (v61 = 0 →
                              call 12 [ar p, ar (sr u60 11)] u60 (zqI (fun v64 u63 =>
                                call 14 [ar p, ai v64] u63 (zqV (fun u65 =>
                                  call 30 [ai x1] u65 (zqI (fun v68 u67 =>
                                    call 10 [ar p, ai v68, ai 5, ai x3_1] u67 (zqV (fun u69 =>
                                      (cz u69 + 1 ≤ mz u69 ∧ cu u69 + 1 ≤ mu u69) ∧
                                      ∀ u71 : CW, u71 = nO u69 12 1 →
                                      call 117 [ar (cz u69 + 1)] u71 (zqV (fun u73 =>
                                        pC_X0_plain_322 p call Q X x2 x3_1 (cz u69 + 1) u73) zno)) (fun x75 u76 =>
                                      X x75 u76))) zno)) (fun x77 u78 =>
                                  X x77 u78))) zno)) ∧
                            (¬ (v61 = 0) →
                              pC_X0_plain_259 p call Q X x1 x2 x3_1 u60)) zno)) ∧
                        (¬ (v34 = 0) →
                          pC_X0_plain_259 p call Q X x1 x2 x3_1 u33)) zno))) ∧
                  (¬ (v30 = 0) →
                    ∀ v90 : Int, v90 = (if x2 = 0 then 1 else 0) →
                    call 10 [ar p, ai v90, ai 9, ai x3_1] u29 (zqV (fun u91 =>
                      call 32 [ar p, ai x1] u91 (zqR (fun v94 u93 =>
                        Q v94 u93) (fun x95 u96 =>
                        X x95 u96))) (fun x97 u98 =>
                      X x97 u98)))) zno))) ∧
            (¬ (v26 = 0) →
              pC_X0_plain_118 p call Q X x1 x2 x3_1 u25)) zno))) ∧
      (¬ (v4 = 0) →
        ∀ v105 : Int, v105 = (if x2 = 0 then 1 else 0) →
        call 10 [ar p, ai v105, ai 9, ai x3_1] u3 (zqV (fun u106 =>
          call 4 [ar p] u106 (zqV (fun u108 =>
            (cz u108 + 1 ≤ mz u108 ∧ cu u108 + 1 ≤ mu u108) ∧
            ∀ u110 : CW, u110 = nO u108 6 1 →
            call 95 [ar (cz u108 + 1)] u110 (zqV (fun u112 =>
              Q (cz u108 + 1) u112) zno)) (fun x114 u115 =>
            X x114 u115))) (fun x116 u117 =>
          X x116 u117)))) zno))
/-! LetterPost.nameAt(I)I -/
def pC_X0_nameAt_30 (p : Nat) (call : Nat → List ZA → CW → (ZRes → CW → Prop) → Prop) (Q : Int → CW → Prop) (X : Nat → CW → Prop) (x2 : Int) (w : CW) : Prop :=
  ∀ v3 : Int, v3 = (if (x2 = (fI w 17 p)) ∨ ((i_and (i_shr (fI w 18 p) x2) 1) = 0) then 1 else 0) →
  call 10 [ar p, ai v3, ai 3, ai (fI w 11 p)] w (zqV (fun u4 =>
    Q x2 u4) (fun x6 u7 =>
    X x6 u7))
def pC_X0_nameAt_2 (p : Nat) (call : Nat → List ZA → CW → (ZRes → CW → Prop) → Prop) (Q : Int → CW → Prop) (X : Nat → CW → Prop) (x2 : Int) (w : CW) : Prop :=
  ∀ I2 : Int → CW → Prop, (∀ (x2 : Int) (w : CW), (
    ((¬ ((fI w 17 p) ≤ x2) → (tg w (fR w 15 p) = 103 ∧ 0 ≤ x2 ∧ x2 < ln w (fR w 15 p)))) ∧
    (¬ ((fI w 17 p) ≤ x2) ∧ (¬ ((aW w (fR w 15 p) x2) = (fI w 12 p))) →
      ∀ x2_2 : Int, x2_2 = w32 (x2 + 1) →
      I2 x2_2 w) ∧
    (¬ (¬ ((fI w 17 p) ≤ x2) ∧ (¬ ((aW w (fR w 15 p) x2) = (fI w 12 p)))) →
      pC_X0_nameAt_30 p call Q X x2 w)) → I2 x2 w) → I2 x2 w
def pC_X0_nameAt_0 (p : Nat) (call : Nat → List ZA → CW → (ZRes → CW → Prop) → Prop) (Q : Int → CW → Prop) (X : Nat → CW → Prop) (w : CW) : Prop :=
  pC_X0_nameAt_2 p call Q X 0 w
/-! LetterPost.bind(II)I -/
def pC_X0_bind_0 (p : Nat) (call : Nat → List ZA → CW → (ZRes → CW → Prop) → Prop) (Q : Int → CW → Prop) (X : Nat → CW → Prop) (x1 : Int) (x2 : Int) (w : CW) : Prop :=
  ∀ v1 : Int, v1 = (if ¬ (8 ≤ x1) then 1 else 0) →
  call 10 [ar p, ai v1, ai 9, ai (fI w 11 p)] w (zqV (fun u2 =>
    (tg u2 (fR u2 15 p) = 103 ∧ 0 ≤ x1 ∧ x1 < ln u2 (fR u2 15 p)) ∧
    ∀ u4 : CW, u4 = qI u2 (fR u2 15 p) x1 (fI u2 12 p) →
    ∀ u6 : CW, u6 = pI u4 17 p (if (fI u4 17 p) < (w32 (x1 + 1)) then (w32 (x1 + 1)) else (fI u4 17 p)) →
    (tg u6 (fR u6 16 p) = 102 ∧ 0 ≤ x1 ∧ x1 < ln u6 (fR u6 16 p)) ∧
    ∀ u7 : CW, u7 = qI u6 (fR u6 16 p) x1 x2 →
    ∀ u9 : CW, u9 = pI u7 18 p (i_or (fI u7 18 p) (i_shl 1 x1)) →
    Q x1 u9) (fun x10 u11 =>
    X x10 u11))
/-! LetterPost.range(I)LLetterPost$Pattern; -/
def pC_X0_range_46 (p : Nat) (call : Nat → List ZA → CW → (ZRes → CW → Prop) → Prop) (Q : Nat → CW → Prop) (X : Nat → CW → Prop) (x2 : Int) (x3 : Int) (w : CW) : Prop :=
  (cz w + 1 ≤ mz w ∧ cu w + 3 ≤ mu w) ∧
  ∀ u6 : CW, u6 = nO w 7 3 →
  call 99 [ar (cz w + 1), ai x2, ai x3] u6 (zqV (fun u8 =>
    Q (cz w + 1) u8) zno)
def pC_X0_range_0 (p : Nat) (call : Nat → List ZA → CW → (ZRes → CW → Prop) → Prop) (Q : Nat → CW → Prop) (X : Nat → CW → Prop) (x1 : Int) (w : CW) : Prop :=
  call 27 [ar p] w (zqI (fun v2 u1 =>
    call 16 [ar p, ai 46] u1 (zqI (fun v4 u3 =>
      (v4 = 0 →
        pC_X0_range_46 p call Q X v2 v2 u3) ∧
      (¬ (v4 = 0) →
        call 4 [ar p] u3 (zqV (fun u10 =>
          call 28 [ar p] u10 (zqI (fun v13 u12 =>
            ∀ v14 : Int, v14 = (if ¬ (v13 < v2) then 1 else 0) →
            call 10 [ar p, ai v14, ai 7, ai x1] u12 (zqV (fun u15 =>
              call 4 [ar p] u15 (zqV (fun u17 =>
                pC_X0_range_46 p call Q X v2 v13 u17) (fun x19 u20 =>
                X x19 u20))) (fun x21 u22 =>
              X x21 u22))) (fun x25 u26 =>
            X x25 u26))) (fun x27 u28 =>
          X x27 u28)))) zno)) (fun x29 u30 =>
    X x29 u30))
/-! LetterPost.readWhole()I -/
def pC_X0_readWhole_0 (p : Nat) (call : Nat → List ZA → CW → (ZRes → CW → Prop) → Prop) (Q : Int → CW → Prop) (X : Nat → CW → Prop) (w : CW) : Prop :=
  call 28 [ar p] w (zqI (fun v2 u1 =>
    call 4 [ar p] u1 (zqV (fun u3 =>
      Q v2 u3) (fun x5 u6 =>
      X x5 u6))) (fun x7 u8 =>
    X x7 u8))
/-! LetterPost.signed()I -/
def pC_X0_signed_15 (p : Nat) (call : Nat → List ZA → CW → (ZRes → CW → Prop) → Prop) (Q : Int → CW → Prop) (X : Nat → CW → Prop) (x1 : Int) (w : CW) : Prop :=
  ∀ v4 : Int, v4 = (if (fI w 10 p) = 3 then 1 else 0) →
  call 14 [ar p, ai v4] w (zqV (fun u5 =>
    ∀ v7 : Int, v7 = (if ¬ (x1 = 0) then w32 (-(fI u5 13 p)) else fI u5 13 p) →
    Q v7 u5) (fun x10 u11 =>
    X x10 u11))
def pC_X0_signed_0 (p : Nat) (call : Nat → List ZA → CW → (ZRes → CW → Prop) → Prop) (Q : Int → CW → Prop) (X : Nat → CW → Prop) (w : CW) : Prop :=
  call 16 [ar p, ai 45] w (zqI (fun v2 u1 =>
    (v2 = 0 →
      pC_X0_signed_15 p call Q X v2 u1) ∧
    (¬ (v2 = 0) →
      call 4 [ar p] u1 (zqV (fun u14 =>
        pC_X0_signed_15 p call Q X v2 u14) (fun x16 u17 =>
        X x16 u17)))) zno)
/-! LetterPost.kinded(IZ)LLetterPost$Pattern; -/
def pC_X0_kinded_225 (p : Nat) (call : Nat → List ZA → CW → (ZRes → CW → Prop) → Prop) (Q : Nat → CW → Prop) (X : Nat → CW → Prop) (x3 : Nat) (x4 : Nat) (w : CW) : Prop :=
  call 16 [ar p, ai 44] w (zqI (fun v30 u29 =>
    ∀ v31 : Int, v31 = (if v30 = 0 then 1 else 0) →
    call 10 [ar p, ai v31, ai 6, ai (fI u29 11 p)] u29 (zqV (fun u32 =>
      call 18 [ar p, ai 41] u32 (zqV (fun u34 =>
        ∀ u36 : CW, u36 = pI u34 19 p (w32 ((fI u34 19 p) - 1)) →
        (cz u36 + 1 ≤ mz u36 ∧ cu u36 + 3 ≤ mu u36) ∧
        ∀ u37 : CW, u37 = nO u36 8 3 →
        call 102 [ar (cz u36 + 1), ar x3, ar x4] u37 (zqV (fun u39 =>
          Q (cz u36 + 1) u39) zno)) (fun x41 u42 =>
        X x41 u42))) (fun x43 u44 =>
      X x43 u44))) zno)
def pC_X0_kinded_190 (p : Nat) (call : Nat → List ZA → CW → (ZRes → CW → Prop) → Prop) (Q : Nat → CW → Prop) (X : Nat → CW → Prop) (I161 : Int → CW → Prop) (x3 : Nat) (x4 : Nat) (x5 : Int) (s0 : Int) (s1 : Nat) (w : CW) : Prop :=
  (tg w s1 = 1) ∧
  call 10 [ar s1, ai s0, ai 6, ai (fI w 11 p)] w (zqV (fun u48 =>
    call 4 [ar p] u48 (zqV (fun u50 =>
      (hF 41 (tg u50 x3) = true) ∧
      (tg u50 (fR u50 41 x3) = 102 ∧ 0 ≤ x5 ∧ x5 < ln u50 (fR u50 41 x3)) ∧
      call 22 [ar p, ai (aN u50 (fR u50 41 x3) x5)] u50 (zqR (fun v55 u54 =>
        ((111 ≤ tg u54 x4 ∧ tg u54 x4 ≤ 119) ∧ 0 ≤ x5 ∧ x5 < ln u54 x4) ∧
        (v55 = 0 ∨ zst (tg u54 x4) (tg u54 v55) = true) ∧
        ∀ u56 : CW, u56 = qR u54 x4 x5 v55 →
        ∀ x5_59 : Int, x5_59 = w32 (x5 + 1) →
        I161 x5_59 u56) (fun x60 u61 =>
        X x60 u61))) (fun x62 u63 =>
      X x62 u63))) (fun x64 u65 =>
    X x64 u65))
def pC_X0_kinded_185 (p : Nat) (call : Nat → List ZA → CW → (ZRes → CW → Prop) → Prop) (Q : Nat → CW → Prop) (X : Nat → CW → Prop) (I161 : Int → CW → Prop) (x3 : Nat) (x4 : Nat) (x5 : Int) (s0 : Nat) (w : CW) : Prop :=
  pC_X0_kinded_190 p call Q X I161 x3 x4 x5 1 s0 w
def pC_X0_kinded_161 (p : Nat) (call : Nat → List ZA → CW → (ZRes → CW → Prop) → Prop) (Q : Nat → CW → Prop) (X : Nat → CW → Prop) (x3 : Nat) (x4 : Nat) (x5 : Int) (w : CW) : Prop :=
  ∀ I161 : Int → CW → Prop, (∀ (x5 : Int) (w : CW), (
    (hF 42 (tg w x3) = true) ∧
    ((fI w 42 x3) ≤ x5 →
      pC_X0_kinded_225 p call Q X x3 x4 w) ∧
    (¬ ((fI w 42 x3) ≤ x5) →
      (x5 = 0 →
        pC_X0_kinded_185 p call Q X I161 x3 x4 x5 p w) ∧
      (¬ (x5 = 0) →
        call 16 [ar p, ai 44] w (zqI (fun v68 u67 =>
          (v68 = 0 →
            pC_X0_kinded_190 p call Q X I161 x3 x4 x5 0 p u67) ∧
          (¬ (v68 = 0) →
            pC_X0_kinded_185 p call Q X I161 x3 x4 x5 p u67)) zno)))) → I161 x5 w) → I161 x5 w
def pC_X0_kinded_64 (p : Nat) (call : Nat → List ZA → CW → (ZRes → CW → Prop) → Prop) (Q : Nat → CW → Prop) (X : Nat → CW → Prop) (x2 : Int) (x3 : Nat) (s0 : Int) (s1 : Nat) (w : CW) : Prop :=
  (tg w s1 = 1) ∧
  call 10 [ar s1, ai s0, ai 5, ai (fI w 11 p)] w (zqV (fun u9 =>
    ∀ v11 : Int, v11 = (if x2 = 0 then 1 else 0) →
    call 10 [ar p, ai v11, ai 9, ai (fI u9 11 p)] u9 (zqV (fun u12 =>
      call 4 [ar p] u12 (zqV (fun u14 =>
        call 16 [ar p, ai 40] u14 (zqI (fun v17 u16 =>
          (v17 = 0 →
            (cz u16 + 1 ≤ mz u16 ∧ cu u16 + 3 ≤ mu u16) ∧
            ∀ u74 : CW, u74 = nO u16 8 3 →
            ((0 ≤ (0 : Int) ∧ (0 : Int) ≤ 1000000) ∧ cz u74 + 1 ≤ mz u74 ∧ cu u74 + Int.toNat 0 ≤ mu u74) ∧
            ∀ u76 : CW, u76 = nA u74 114 (Int.toNat 0) →
            call 102 [ar (cz u16 + 1), ar x3, ar (cz u74 + 1)] u76 (zqV (fun u78 =>
              Q (cz u16 + 1) u78) zno)) ∧
          (¬ (v17 = 0) →
            (hF 42 (tg u16 x3) = true) ∧
            ∀ v20 : Int, v20 = (if ¬ ((fI u16 42 x3) ≤ 0) then 1 else 0) →
            call 10 [ar p, ai v20, ai 6, ai (fI u16 11 p)] u16 (zqV (fun u21 =>
              (hF 42 (tg u21 x3) = true) ∧
              ((0 ≤ (fI u21 42 x3) ∧ (fI u21 42 x3) ≤ 1000000) ∧ cz u21 + 1 ≤ mz u21 ∧ cu u21 + Int.toNat (fI u21 42 x3) ≤ mu u21) ∧
              ∀ u24 : CW, u24 = nA u21 114 (Int.toNat (fI u21 42 x3)) →
              ∀ u26 : CW, u26 = pI u24 19 p (w32 ((fI u24 19 p) + 1)) →
              pC_X0_kinded_161 p call Q X x3 (cz u21 + 1) 0 u26) (fun x70 u71 =>
              X x70 u71)))) zno)) (fun x80 u81 =>
        X x80 u81))) (fun x82 u83 =>
      X x82 u83))) (fun x86 u87 =>
    X x86 u87))
def pC_X0_kinded_63 (p : Nat) (call : Nat → List ZA → CW → (ZRes → CW → Prop) → Prop) (Q : Nat → CW → Prop) (X : Nat → CW → Prop) (x2 : Int) (x3 : Nat) (s0 : Nat) (w : CW) : Prop :=
  pC_X0_kinded_64 p call Q X x2 x3 0 s0 w
def pC_X0_kinded_59 (p : Nat) (call : Nat → List ZA → CW → (ZRes → CW → Prop) → Prop) (Q : Nat → CW → Prop) (X : Nat → CW → Prop) (x2 : Int) (x3 : Nat) (s0 : Nat) (w : CW) : Prop :=
  pC_X0_kinded_64 p call Q X x2 x3 1 s0 w
def pC_X0_kinded_0 (p : Nat) (call : Nat → List ZA → CW → (ZRes → CW → Prop) → Prop) (Q : Nat → CW → Prop) (X : Nat → CW → Prop) (x1 : Int) (x2 : Int) (w : CW) : Prop :=
  call 15 [ar p, al (fI w 12 p)] w (zqR (fun v2 u1 =>
    ∀ v3 : Int, v3 = (if ¬ (v2 = 0) then 1 else 0) →
    call 10 [ar p, ai v3, ai 4, ai (fI u1 11 p)] u1 (zqV (fun u4 =>
      call 30 [ai x1] u4 (zqI (fun v7 u6 =>
        (v7 = 0 →
          pC_X0_kinded_63 p call Q X x2 v2 p u6) ∧
        (¬ (v7 = 0) →
          call 31 [ar p, ai x1] u6 (zqR (fun v90 u89 =>
            (tg u89 v2 = 3) ∧
            call 83 [ar v2, ar v90] u89 (zqI (fun v92 u91 =>
              (v92 = 0 →
                call 31 [ar p, ai x1] u91 (zqR (fun v95 u94 =>
                  (tg u94 v95 = 3) ∧
                  call 83 [ar v95, ar v2] u94 (zqI (fun v97 u96 =>
                    (v97 = 0 →
                      pC_X0_kinded_63 p call Q X x2 v2 p u96) ∧
                    (¬ (v97 = 0) →
                      pC_X0_kinded_59 p call Q X x2 v2 p u96)) zno)) zno)) ∧
              (¬ (v92 = 0) →
                pC_X0_kinded_59 p call Q X x2 v2 p u91)) zno)) zno))) zno)) (fun x101 u102 =>
      X x101 u102))) zno)
/-! LetterPost.isKind(I)Z -/
def pC_X0_isKind_0 (p : Nat) (call : Nat → List ZA → CW → (ZRes → CW → Prop) → Prop) (Q : Int → CW → Prop) (x0 : Int) (w : CW) : Prop :=
  ∀ v1 : Int, v1 = (if ¬ (x0 < 3) then 1 else 0) →
  Q v1 w
/-! LetterPost.kindOf(I)LLetterPost$Kind; -/
def pC_X0_kindOf_0 (p : Nat) (call : Nat → List ZA → CW → (ZRes → CW → Prop) → Prop) (Q : Nat → CW → Prop) (x1 : Int) (w : CW) : Prop :=
  ((111 ≤ tg w (fR w 0 p) ∧ tg w (fR w 0 p) ≤ 119) ∧ 0 ≤ (w32 (x1 - 3)) ∧ (w32 (x1 - 3)) < ln w (fR w 0 p)) ∧
  Q (aR w (fR w 0 p) (w32 (x1 - 3))) w
/-! LetterPost.either(I)LLetterPost$Pattern; -/
def pC_X0_either_328 (p : Nat) (call : Nat → List ZA → CW → (ZRes → CW → Prop) → Prop) (Q : Nat → CW → Prop) (X : Nat → CW → Prop) (x3 : Nat) (x4 : Int) (w : CW) : Prop :=
  ((0 ≤ x4 ∧ x4 ≤ 1000000) ∧ cz w + 1 ≤ mz w ∧ cu w + Int.toNat x4 ≤ mu w) ∧
  ∀ u38 : CW, u38 = nA w 114 (Int.toNat x4) →
  ((0 ≤ (0 : Int) ∧ 0 ≤ (0 : Int) ∧ 0 ≤ x4 ∧ (0 : Int) + x4 ≤ ln u38 x3 ∧ (0 : Int) + x4 ≤ ln u38 (cz w + 1)) ∧ cpOk u38 x3 0 (cz w + 1) x4) ∧
  ∀ u40 : CW, u40 = qC u38 x3 0 (cz w + 1) 0 x4 →
  (cz u40 + 1 ≤ mz u40 ∧ cu u40 + 2 ≤ mu u40) ∧
  ∀ u42 : CW, u42 = nO u40 9 2 →
  call 107 [ar (cz u40 + 1), ar (cz w + 1)] u42 (zqV (fun u44 =>
    Q (cz u40 + 1) u44) zno)
def pC_X0_either_282 (p : Nat) (call : Nat → List ZA → CW → (ZRes → CW → Prop) → Prop) (Q : Nat → CW → Prop) (X : Nat → CW → Prop) (x3 : Nat) (x4 : Int) (x6 : Int) (x7 : Nat) (x9 : Int) (w : CW) : Prop :=
  ∀ I282 : Int → CW → Prop, (∀ (x9 : Int) (w : CW), (
    (8 ≤ x9 →
      pC_X0_either_328 p call Q X x3 x4 w) ∧
    (¬ (8 ≤ x9) →
      (((i_and (i_shr x6 x9) 1) = 1 → (tg w x7 = 102 ∧ 0 ≤ x9 ∧ x9 < ln w x7)) ∧ (¬ ((i_and (i_shr x6 x9) 1) = 1) → (tg w (fR w 16 p) = 102 ∧ 0 ≤ x9 ∧ x9 < ln w (fR w 16 p)))) ∧
      ∀ v46 : Int, v46 = (if (i_and (i_shr x6 x9) 1) = 1 then aN w x7 x9 else aN w (fR w 16 p) x9) →
      (tg w (fR w 16 p) = 102 ∧ 0 ≤ x9 ∧ x9 < ln w (fR w 16 p)) ∧
      ∀ u48 : CW, u48 = qI w (fR w 16 p) x9 v46 →
      ∀ x9_50 : Int, x9_50 = w32 (x9 + 1) →
      I282 x9_50 u48)) → I282 x9 w) → I282 x9 w
def pC_X0_either_237 (p : Nat) (call : Nat → List ZA → CW → (ZRes → CW → Prop) → Prop) (Q : Nat → CW → Prop) (X : Nat → CW → Prop) (x2 : Int) (x3 : Nat) (x4 : Int) (x5 : Int) (x6 : Int) (x7 : Nat) (x8 : Int) (w : CW) : Prop :=
  call 16 [ar p, ai 41] w (zqI (fun v28 u27 =>
    call 14 [ar p, ai v28] u27 (zqV (fun u29 =>
      call 10 [ar p, ai x8, ai 8, ai x2] u29 (zqV (fun u31 =>
        call 4 [ar p] u31 (zqV (fun u33 =>
          ∀ u35 : CW, u35 = pI u33 19 p (w32 ((fI u33 19 p) - 1)) →
          ∀ u36 : CW, u36 = pI u35 18 p (i_or x5 x6) →
          pC_X0_either_282 p call Q X x3 x4 x6 x7 0 u36) (fun x53 u54 =>
          X x53 u54))) (fun x55 u56 =>
        X x55 u56))) (fun x57 u58 =>
      X x57 u58))) zno)
def pC_X0_either_228 (p : Nat) (call : Nat → List ZA → CW → (ZRes → CW → Prop) → Prop) (Q : Nat → CW → Prop) (X : Nat → CW → Prop) (I42 : Int → Int → Int → CW → Prop) (x1 : Int) (x2 : Int) (x3 : Nat) (x4 : Int) (x5 : Int) (x6 : Int) (x7 : Nat) (x8 : Int) (w : CW) : Prop :=
  call 16 [ar p, ai 124] w (zqI (fun v25 u24 =>
    (v25 = 0 →
      pC_X0_either_237 p call Q X x2 x3 x4 x5 x6 x7 x8 u24) ∧
    (¬ (v25 = 0) →
      I42 x4 x6 x8 u24)) zno)
def pC_X0_either_130 (p : Nat) (call : Nat → List ZA → CW → (ZRes → CW → Prop) → Prop) (Q : Nat → CW → Prop) (X : Nat → CW → Prop) (I42 : Int → Int → Int → CW → Prop) (x1 : Int) (x2 : Int) (x3 : Nat) (x4 : Int) (x5 : Int) (x6 : Int) (x7 : Nat) (x8 : Int) (x10 : Int) (x11 : Int) (w : CW) : Prop :=
  ∀ I130 : Int → Int → CW → Prop, (∀ (x8 : Int) (x11 : Int) (w : CW), (
    (8 ≤ x11 →
      pC_X0_either_228 p call Q X I42 x1 x2 x3 x4 x5 x6 x7 x8 w) ∧
    (¬ (8 ≤ x11) →
      ∀ v59 : Int, v59 = (if (i_and (i_shr x10 x11) 1) = 1 then 1 else 0) →
      ((¬ (v59 = 0) → (¬ (x4 = 1) → (tg w (fR w 16 p) = 102 ∧ 0 ≤ x11 ∧ x11 < ln w (fR w 16 p)) ∧ (tg w x7 = 102 ∧ 0 ≤ x11 ∧ x11 < ln w x7)))) ∧
      ∀ v60 : Int, v60 = (if (v59 = 0) ∨ ((x4 = 1) ∨ ((aN w (fR w 16 p) x11) = (aN w x7 x11))) then 1 else 0) →
      ∀ x8_62 : Int, x8_62 = i_and x8 v60 →
      ((v59 = 0 → (tg w x7 = 102 ∧ 0 ≤ x11 ∧ x11 < ln w x7)) ∧ (¬ (v59 = 0) → (x4 = 1 → (tg w (fR w 16 p) = 102 ∧ 0 ≤ x11 ∧ x11 < ln w (fR w 16 p))) ∧ (¬ (x4 = 1) → (tg w x7 = 102 ∧ 0 ≤ x11 ∧ x11 < ln w x7)))) ∧
      ∀ v63 : Int, v63 = (if ¬ (v59 = 0) ∧ (x4 = 1) then aN w (fR w 16 p) x11 else aN w x7 x11) →
      (tg w x7 = 102 ∧ 0 ≤ x11 ∧ x11 < ln w x7) ∧
      ∀ u65 : CW, u65 = qI w x7 x11 v63 →
      ∀ x11_67 : Int, x11_67 = w32 (x11 + 1) →
      I130 x8_62 x11_67 u65)) → I130 x8 x11 w) → I130 x8 x11 w
def pC_X0_either_42 (p : Nat) (call : Nat → List ZA → CW → (ZRes → CW → Prop) → Prop) (Q : Nat → CW → Prop) (X : Nat → CW → Prop) (x1 : Int) (x2 : Int) (x3 : Nat) (x4 : Int) (x5 : Int) (x6 : Int) (x7 : Nat) (x8 : Int) (w : CW) : Prop :=
  ∀ I42 : Int → Int → Int → CW → Prop, (∀ (x4 : Int) (x6 : Int) (x8 : Int) (w : CW), (
    call 4 [ar p] w (zqV (fun u8 =>
      ∀ u10 : CW, u10 = pI u8 18 p x5 →
      ∀ v11 : Int, v11 = (if x4 = 6 then 1 else 0) →
      ∀ u12 : CW, u12 = pI u10 20 p v11 →
      call 22 [ar p, ai x1] u12 (zqR (fun v14 u13 =>
        ((111 ≤ tg u13 x3 ∧ tg u13 x3 ≤ 119) ∧ 0 ≤ x4 ∧ x4 < ln u13 x3) ∧
        (v14 = 0 ∨ zst (tg u13 x3) (tg u13 v14) = true) ∧
        ∀ u15 : CW, u15 = qR u13 x3 x4 v14 →
        ∀ x4_18 : Int, x4_18 = w32 (x4 + 1) →
        ∀ x10_19 : Int, x10_19 = i_and (fI u15 18 p) (i_xor x5 (-1)) →
        ∀ v20 : Int, v20 = (if x4_18 = 1 then x10_19 else x6) →
        ∀ v21 : Int, v21 = (if x10_19 = v20 then 1 else 0) →
        ∀ x8_22 : Int, x8_22 = i_and x8 v21 →
        pC_X0_either_130 p call Q X I42 x1 x2 x3 x4_18 x5 v20 x7 x8_22 x10_19 0 u15) (fun x81 u82 =>
        X x81 u82))) (fun x85 u86 =>
      X x85 u86))) → I42 x4 x6 x8 w) → I42 x4 x6 x8 w
def pC_X0_either_0 (p : Nat) (call : Nat → List ZA → CW → (ZRes → CW → Prop) → Prop) (Q : Nat → CW → Prop) (X : Nat → CW → Prop) (x1 : Int) (w : CW) : Prop :=
  ∀ x2_1 : Int, x2_1 = fI w 11 p →
  ((0 ≤ (6 : Int) ∧ (6 : Int) ≤ 1000000) ∧ cz w + 1 ≤ mz w ∧ cu w + Int.toNat 6 ≤ mu w) ∧
  ∀ u2 : CW, u2 = nA w 114 (Int.toNat 6) →
  ∀ x5_4 : Int, x5_4 = fI u2 18 p →
  ((0 ≤ (8 : Int) ∧ (8 : Int) ≤ 1000000) ∧ cz u2 + 1 ≤ mz u2 ∧ cu u2 + Int.toNat 8 ≤ mu u2) ∧
  ∀ u5 : CW, u5 = nA u2 102 (Int.toNat 8) →
  ∀ u7 : CW, u7 = pI u5 19 p (w32 ((fI u5 19 p) + 1)) →
  pC_X0_either_42 p call Q X x1 x2_1 (cz w + 1) 0 x5_4 0 (cz u2 + 1) 1 u7
/-! LetterPost.binds(I)I -/
def pC_X0_binds_0 (p : Nat) (call : Nat → List ZA → CW → (ZRes → CW → Prop) → Prop) (Q : Int → CW → Prop) (X : Nat → CW → Prop) (x1 : Int) (w : CW) : Prop :=
  call 24 [ar p, ai x1] w (zqI (fun v2 u1 =>
    call 25 [ar p, ai v2, ai x1] u1 (zqI (fun v4 u3 =>
      Q v4 u3) (fun x5 u6 =>
      X x5 u6))) (fun x7 u8 =>
    X x7 u8))
/-! LetterPost.guard()LLetterPost$Guard; -/
def pC_X0_guard_51 (p : Nat) (call : Nat → List ZA → CW → (ZRes → CW → Prop) → Prop) (Q : Nat → CW → Prop) (X : Nat → CW → Prop) (x1 : Nat) (s0 : Int) (s1 : Nat) (w : CW) : Prop :=
  (tg w s1 = 1) ∧
  call 14 [ar s1, ai s0] w (zqV (fun u12 =>
    (hP 79 (tg u12 x1) = true) ∧
    ∀ u14 : CW, u14 = pI u12 79 x1 (fI u12 14 p) →
    call 4 [ar p] u14 (zqV (fun u16 =>
      call 35 [ar p, ar x1, ai 1] u16 (zqV (fun u18 =>
        Q x1 u18) (fun x20 u21 =>
        X x20 u21))) (fun x22 u23 =>
      X x22 u23))) (fun x24 u25 =>
    X x24 u25))
def pC_X0_guard_46 (p : Nat) (call : Nat → List ZA → CW → (ZRes → CW → Prop) → Prop) (Q : Nat → CW → Prop) (X : Nat → CW → Prop) (x1 : Nat) (s0 : Nat) (w : CW) : Prop :=
  pC_X0_guard_51 p call Q X x1 1 s0 w
def pC_X0_guard_0 (p : Nat) (call : Nat → List ZA → CW → (ZRes → CW → Prop) → Prop) (Q : Nat → CW → Prop) (X : Nat → CW → Prop) (w : CW) : Prop :=
  (cz w + 1 ≤ mz w ∧ cu w + 4 ≤ mu w) ∧
  ∀ u1 : CW, u1 = nO w 13 4 →
  call 120 [ar (cz w + 1)] u1 (zqV (fun u3 =>
    call 4 [ar p] u3 (zqV (fun u5 =>
      call 35 [ar p, ar (cz w + 1), ai 0] u5 (zqV (fun u7 =>
        call 16 [ar p, ai 60] u7 (zqI (fun v10 u9 =>
          (v10 = 0 →
            call 16 [ar p, ai 61] u9 (zqI (fun v28 u27 =>
              (v28 = 0 →
                call 16 [ar p, ai 62] u27 (zqI (fun v31 u30 =>
                  (v31 = 0 →
                    pC_X0_guard_51 p call Q X (cz w + 1) 0 p u30) ∧
                  (¬ (v31 = 0) →
                    pC_X0_guard_46 p call Q X (cz w + 1) p u30)) zno)) ∧
              (¬ (v28 = 0) →
                pC_X0_guard_46 p call Q X (cz w + 1) p u27)) zno)) ∧
          (¬ (v10 = 0) →
            pC_X0_guard_46 p call Q X (cz w + 1) p u9)) zno)) (fun x33 u34 =>
        X x33 u34))) (fun x35 u36 =>
      X x35 u36))) zno)
/-! LetterPost.sum(LLetterPost$Guard;I)V -/
def pC_X0_sum_53 (p : Nat) (call : Nat → List ZA → CW → (ZRes → CW → Prop) → Prop) (Q : CW → Prop) (X : Nat → CW → Prop) (w : CW) : Prop :=
  Q w
def pC_X0_sum_0 (p : Nat) (call : Nat → List ZA → CW → (ZRes → CW → Prop) → Prop) (Q : CW → Prop) (X : Nat → CW → Prop) (x1 : Nat) (x2 : Int) (w : CW) : Prop :=
  call 36 [ar p, ar x1, ai (w32 (2 * x2))] w (zqV (fun u1 =>
    ((fI u1 10 p) = 5 →
      (tg u1 (sr u1 14) = 32 ∨ tg u1 (sr u1 14) = 34) ∧
      call 231 [ar (sr u1 14), ai (fI u1 14 p)] u1 (zqI (fun v5 u4 =>
        (v5 < 0 →
          pC_X0_sum_53 p call Q X u4) ∧
        (¬ (v5 < 0) →
          (hF 76 (tg u4 x1) = true) ∧
          (tg u4 (fR u4 76 x1) = 102 ∧ 0 ≤ x2 ∧ x2 < ln u4 (fR u4 76 x1)) ∧
          ∀ u8 : CW, u8 = qI u4 (fR u4 76 x1) x2 (fI u4 14 p) →
          call 4 [ar p] u8 (zqV (fun u10 =>
            call 36 [ar p, ar x1, ai (w32 ((w32 (2 * x2)) + 1))] u10 (zqV (fun u12 =>
              pC_X0_sum_53 p call Q X u12) (fun x14 u15 =>
              X x14 u15))) (fun x16 u17 =>
            X x16 u17)))) zno)) ∧
    (¬ ((fI u1 10 p) = 5) →
      pC_X0_sum_53 p call Q X u1)) (fun x20 u21 =>
    X x20 u21))
/-! LetterPost.term(LLetterPost$Guard;I)V -/
def pC_X0_term_35 (p : Nat) (call : Nat → List ZA → CW → (ZRes → CW → Prop) → Prop) (Q : CW → Prop) (X : Nat → CW → Prop) (w : CW) : Prop :=
  Q w
def pC_X0_term_0 (p : Nat) (call : Nat → List ZA → CW → (ZRes → CW → Prop) → Prop) (Q : CW → Prop) (X : Nat → CW → Prop) (x1 : Nat) (x2 : Int) (w : CW) : Prop :=
  ((fI w 10 p) = 1 →
    (hF 78 (tg w x1) = true) ∧
    call 37 [ar p] w (zqI (fun v11 u10 =>
      (tg u10 (fR w 78 x1) = 102 ∧ 0 ≤ x2 ∧ x2 < ln u10 (fR w 78 x1)) ∧
      ∀ u12 : CW, u12 = qI u10 (fR w 78 x1) x2 v11 →
      call 4 [ar p] u12 (zqV (fun u14 =>
        pC_X0_term_35 p call Q X u14) (fun x16 u17 =>
        X x16 u17))) (fun x18 u19 =>
      X x18 u19))) ∧
  (¬ ((fI w 10 p) = 1) →
    (hF 77 (tg w x1) = true) ∧
    call 27 [ar p] w (zqI (fun v4 u3 =>
      (tg u3 (fR w 77 x1) = 102 ∧ 0 ≤ x2 ∧ x2 < ln u3 (fR w 77 x1)) ∧
      ∀ u5 : CW, u5 = qI u3 (fR w 77 x1) x2 v4 →
      pC_X0_term_35 p call Q X u5) (fun x7 u8 =>
      X x7 u8)))
/-! LetterPost.wholeName()I -/
def pC_X0_wholeName_0 (p : Nat) (call : Nat → List ZA → CW → (ZRes → CW → Prop) → Prop) (Q : Int → CW → Prop) (X : Nat → CW → Prop) (w : CW) : Prop :=
  call 38 [ar p] w (zqI (fun v2 u1 =>
    (tg u1 (fR u1 16 p) = 102 ∧ 0 ≤ v2 ∧ v2 < ln u1 (fR u1 16 p)) ∧
    ∀ v4 : Int, v4 = (if (aN u1 (fR u1 16 p) v2) = 0 then 1 else 0) →
    call 10 [ar p, ai v4, ai 5, ai (fI u1 11 p)] u1 (zqV (fun u5 =>
      Q v2 u5) (fun x7 u8 =>
      X x7 u8))) (fun x11 u12 =>
    X x11 u12))
/-! LetterPost.known()I -/
def pC_X0_known_35 (p : Nat) (call : Nat → List ZA → CW → (ZRes → CW → Prop) → Prop) (Q : Int → CW → Prop) (X : Nat → CW → Prop) (I2 : Int → CW → Prop) (x1 : Int) (w : CW) : Prop :=
  ∀ x1_2 : Int, x1_2 = w32 (x1 + 1) →
  I2 x1_2 w
def pC_X0_known_41 (p : Nat) (call : Nat → List ZA → CW → (ZRes → CW → Prop) → Prop) (Q : Int → CW → Prop) (X : Nat → CW → Prop) (x1 : Int) (w : CW) : Prop :=
  ∀ v3 : Int, v3 = (if ¬ ((fI w 17 p) ≤ x1) then 1 else 0) →
  call 10 [ar p, ai v3, ai 4, ai (fI w 11 p)] w (zqV (fun u4 =>
    Q x1 u4) (fun x6 u7 =>
    X x6 u7))
def pC_X0_known_2 (p : Nat) (call : Nat → List ZA → CW → (ZRes → CW → Prop) → Prop) (Q : Int → CW → Prop) (X : Nat → CW → Prop) (x1 : Int) (w : CW) : Prop :=
  ∀ I2 : Int → CW → Prop, (∀ (x1 : Int) (w : CW), (
    ((¬ ((fI w 17 p) ≤ x1) → (tg w (fR w 15 p) = 103 ∧ 0 ≤ x1 ∧ x1 < ln w (fR w 15 p)))) ∧
    (¬ ((fI w 17 p) ≤ x1) ∧ (¬ ((aW w (fR w 15 p) x1) = (fI w 12 p)) ∨ ((i_and (i_shr (fI w 18 p) x1) 1) = 0)) →
      pC_X0_known_35 p call Q X I2 x1 w) ∧
    (¬ (¬ ((fI w 17 p) ≤ x1) ∧ (¬ ((aW w (fR w 15 p) x1) = (fI w 12 p)) ∨ ((i_and (i_shr (fI w 18 p) x1) 1) = 0))) →
      pC_X0_known_41 p call Q X x1 w)) → I2 x1 w) → I2 x1 w
def pC_X0_known_0 (p : Nat) (call : Nat → List ZA → CW → (ZRes → CW → Prop) → Prop) (Q : Int → CW → Prop) (X : Nat → CW → Prop) (w : CW) : Prop :=
  pC_X0_known_2 p call Q X 0 w
/-! LetterPost.answer(LLetterPost$Rule;)V -/
def pC_X0_answer_125 (p : Nat) (call : Nat → List ZA → CW → (ZRes → CW → Prop) → Prop) (Q : CW → Prop) (X : Nat → CW → Prop) (x1 : Nat) (x2 : Nat) (x3 : Nat) (x4 : Int) (w : CW) : Prop :=
  call 18 [ar p, ai 41] w (zqV (fun u32 =>
    ((0 ≤ x4 ∧ x4 ≤ 1000000) ∧ cz u32 + 1 ≤ mz u32 ∧ cu u32 + Int.toNat x4 ≤ mu u32) ∧
    ∀ u34 : CW, u34 = nA u32 102 (Int.toNat x4) →
    (hP 62 (tg u34 x1) = true) ∧
    ∀ u36 : CW, u36 = pR u34 62 x1 (cz u32 + 1) →
    ((0 ≤ x4 ∧ x4 ≤ 1000000) ∧ cz u36 + 1 ≤ mz u36 ∧ cu u36 + Int.toNat x4 ≤ mu u36) ∧
    ∀ u38 : CW, u38 = nA u36 102 (Int.toNat x4) →
    (hP 65 (tg u38 x1) = true) ∧
    ∀ u40 : CW, u40 = pR u38 65 x1 (cz u36 + 1) →
    (hF 62 (tg u40 x1) = true) ∧
    ((0 ≤ (0 : Int) ∧ 0 ≤ (0 : Int) ∧ 0 ≤ x4 ∧ (0 : Int) + x4 ≤ ln u40 x2 ∧ (0 : Int) + x4 ≤ ln u40 (fR u40 62 x1)) ∧ cpOk u40 x2 0 (fR u40 62 x1) x4) ∧
    ∀ u43 : CW, u43 = qC u40 x2 0 (fR u40 62 x1) 0 x4 →
    (hF 65 (tg u43 x1) = true) ∧
    ((0 ≤ (0 : Int) ∧ 0 ≤ (0 : Int) ∧ 0 ≤ x4 ∧ (0 : Int) + x4 ≤ ln u43 x3 ∧ (0 : Int) + x4 ≤ ln u43 (fR u43 65 x1)) ∧ cpOk u43 x3 0 (fR u43 65 x1) x4) ∧
    ∀ u46 : CW, u46 = qC u43 x3 0 (fR u43 65 x1) 0 x4 →
    Q u46) (fun x48 u49 =>
    X x48 u49))
def pC_X0_answer_72 (p : Nat) (call : Nat → List ZA → CW → (ZRes → CW → Prop) → Prop) (Q : CW → Prop) (X : Nat → CW → Prop) (x1 : Nat) (x2 : Nat) (x3 : Nat) (x4 : Int) (w : CW) : Prop :=
  ∀ I72 : Int → CW → Prop, (∀ (x4 : Int) (w : CW), (
    call 4 [ar p] w (zqV (fun u15 =>
      ∀ v17 : Int, v17 = (if (fI u15 10 p) = 1 then 1 else 0) →
      call 14 [ar p, ai v17] u15 (zqV (fun u18 =>
        call 38 [ar p] u18 (zqI (fun v21 u20 =>
          (tg u20 x2 = 102 ∧ 0 ≤ x4 ∧ x4 < ln u20 x2) ∧
          ∀ u22 : CW, u22 = qI u20 x2 x4 v21 →
          (tg u22 x3 = 102 ∧ 0 ≤ x4 ∧ x4 < ln u22 x3) ∧
          ∀ u24 : CW, u24 = qI u22 x3 x4 (fI u22 11 p) →
          ∀ x4_26 : Int, x4_26 = w32 (x4 + 1) →
          call 4 [ar p] u24 (zqV (fun u27 =>
            call 16 [ar p, ai 44] u27 (zqI (fun v30 u29 =>
              (v30 = 0 →
                pC_X0_answer_125 p call Q X x1 x2 x3 x4_26 u29) ∧
              (¬ (v30 = 0) →
                I72 x4_26 u29)) zno)) (fun x50 u51 =>
            X x50 u51))) (fun x52 u53 =>
          X x52 u53))) (fun x54 u55 =>
        X x54 u55))) (fun x58 u59 =>
      X x58 u59))) → I72 x4 w) → I72 x4 w
def pC_X0_answer_0 (p : Nat) (call : Nat → List ZA → CW → (ZRes → CW → Prop) → Prop) (Q : CW → Prop) (X : Nat → CW → Prop) (x1 : Nat) (w : CW) : Prop :=
  ((fI w 10 p) = 1 →
    call 40 [ar p] w (zqI (fun v3 u2 =>
      (v3 = 0 →
        call 37 [ar p] u2 (zqI (fun v63 u62 =>
          (hP 61 (tg u62 x1) = true) ∧
          ∀ u64 : CW, u64 = pI u62 61 x1 v63 →
          call 4 [ar p] u64 (zqV (fun u66 =>
            Q u66) (fun x68 u69 =>
            X x68 u69))) (fun x70 u71 =>
          X x70 u71))) ∧
      (¬ (v3 = 0) →
        (hP 63 (tg u2 x1) = true) ∧
        ∀ u5 : CW, u5 = pI u2 63 x1 (fI u2 12 p) →
        (hP 64 (tg u5 x1) = true) ∧
        ∀ u7 : CW, u7 = pI u5 64 x1 (fI u5 11 p) →
        call 4 [ar p] u7 (zqV (fun u9 =>
          ((0 ≤ (800 : Int) ∧ (800 : Int) ≤ 1000000) ∧ cz u9 + 1 ≤ mz u9 ∧ cu u9 + Int.toNat 800 ≤ mu u9) ∧
          ∀ u11 : CW, u11 = nA u9 102 (Int.toNat 800) →
          ((0 ≤ (800 : Int) ∧ (800 : Int) ≤ 1000000) ∧ cz u11 + 1 ≤ mz u11 ∧ cu u11 + Int.toNat 800 ≤ mu u11) ∧
          ∀ u13 : CW, u13 = nA u11 102 (Int.toNat 800) →
          pC_X0_answer_72 p call Q X x1 (cz u9 + 1) (cz u11 + 1) 0 u13) (fun x60 u61 =>
          X x60 u61)))) zno)) ∧
  (¬ ((fI w 10 p) = 1) →
    call 27 [ar p] w (zqI (fun v73 u72 =>
      (hP 60 (tg u72 x1) = true) ∧
      ∀ u74 : CW, u74 = pI u72 60 x1 v73 →
      Q u74) (fun x76 u77 =>
      X x76 u77)))
/-! LetterPost.isCall()Z -/
def pC_X0_isCall_25 (p : Nat) (call : Nat → List ZA → CW → (ZRes → CW → Prop) → Prop) (Q : Int → CW → Prop) (I5 : Int → CW → Prop) (x1 : Int) (w : CW) : Prop :=
  ∀ x1_5 : Int, x1_5 = w32 (x1 + 1) →
  I5 x1_5 w
def pC_X0_isCall_31 (p : Nat) (call : Nat → List ZA → CW → (ZRes → CW → Prop) → Prop) (Q : Int → CW → Prop) (x1 : Int) (w : CW) : Prop :=
  call 6 [ar p, ai x1] w (zqI (fun v10 u9 =>
    ∀ v11 : Int, v11 = (if v10 = 40 then 1 else 0) →
    Q v11 u9) zno)
def pC_X0_isCall_5 (p : Nat) (call : Nat → List ZA → CW → (ZRes → CW → Prop) → Prop) (Q : Int → CW → Prop) (x1 : Int) (w : CW) : Prop :=
  ∀ I5 : Int → CW → Prop, (∀ (x1 : Int) (w : CW), (
    call 6 [ar p, ai x1] w (zqI (fun v3 u2 =>
      (v3 = 32 →
        pC_X0_isCall_25 p call Q I5 x1 u2) ∧
      (¬ (v3 = 32) →
        call 6 [ar p, ai x1] u2 (zqI (fun v7 u6 =>
          (v7 = 10 →
            pC_X0_isCall_25 p call Q I5 x1 u6) ∧
          (¬ (v7 = 10) →
            pC_X0_isCall_31 p call Q x1 u6)) zno))) zno)) → I5 x1 w) → I5 x1 w
def pC_X0_isCall_0 (p : Nat) (call : Nat → List ZA → CW → (ZRes → CW → Prop) → Prop) (Q : Int → CW → Prop) (w : CW) : Prop :=
  ∀ x1_1 : Int, x1_1 = fI w 9 p →
  pC_X0_isCall_5 p call Q x1_1 w
/-! LetterPost.settle()V -/
def pC_X0_settle_132 (p : Nat) (call : Nat → List ZA → CW → (ZRes → CW → Prop) → Prop) (Q : CW → Prop) (X : Nat → CW → Prop) (w : CW) : Prop :=
  Q w
def pC_X0_settle_126 (p : Nat) (call : Nat → List ZA → CW → (ZRes → CW → Prop) → Prop) (Q : CW → Prop) (X : Nat → CW → Prop) (I63 : Int → CW → Prop) (x1 : Int) (w : CW) : Prop :=
  ∀ x1_7 : Int, x1_7 = w32 (x1 + 1) →
  I63 x1_7 w
def pC_X0_settle_80 (p : Nat) (call : Nat → List ZA → CW → (ZRes → CW → Prop) → Prop) (Q : CW → Prop) (X : Nat → CW → Prop) (I63 : Int → CW → Prop) (x1 : Int) (x2 : Nat) (x3 : Int) (w : CW) : Prop :=
  ∀ I80 : Int → CW → Prop, (∀ (x3 : Int) (w : CW), (
    (hF 48 (tg w x2) = true) ∧
    ((fI w 48 x2) ≤ x3 →
      pC_X0_settle_126 p call Q X I63 x1 w) ∧
    (¬ ((fI w 48 x2) ≤ x3) →
      (tg w x2 = 4) ∧
      call 85 [ar x2, ai (w32 (x3 + 1))] w (zqI (fun v9 u8 =>
        ∀ v10 : Int, v10 = (if ¬ (40 < v9) then 1 else 0) →
        (hF 47 (tg u8 x2) = true) ∧
        ((111 ≤ tg u8 (fR u8 47 x2) ∧ tg u8 (fR u8 47 x2) ≤ 119) ∧ 0 ≤ x3 ∧ x3 < ln u8 (fR u8 47 x2)) ∧
        (hF 57 (tg u8 (aR u8 (fR u8 47 x2) x3)) = true) ∧
        call 10 [ar p, ai v10, ai 9, ai (fI u8 57 (aR u8 (fR u8 47 x2) x3))] u8 (zqV (fun u14 =>
          ∀ x3_16 : Int, x3_16 = w32 (x3 + 1) →
          I80 x3_16 u14) (fun x17 u18 =>
          X x17 u18))) zno))) → I80 x3 w) → I80 x3 w
def pC_X0_settle_63 (p : Nat) (call : Nat → List ZA → CW → (ZRes → CW → Prop) → Prop) (Q : CW → Prop) (X : Nat → CW → Prop) (x1 : Int) (w : CW) : Prop :=
  ∀ I63 : Int → CW → Prop, (∀ (x1 : Int) (w : CW), (
    ((fI w 6 p) ≤ x1 →
      pC_X0_settle_132 p call Q X w) ∧
    (¬ ((fI w 6 p) ≤ x1) →
      ((111 ≤ tg w (fR w 5 p) ∧ tg w (fR w 5 p) ≤ 119) ∧ 0 ≤ x1 ∧ x1 < ln w (fR w 5 p)) ∧
      ∀ x2_4 : Nat, x2_4 = aR w (fR w 5 p) x1 →
      pC_X0_settle_80 p call Q X I63 x1 x2_4 0 w)) → I63 x1 w) → I63 x1 w
def pC_X0_settle_61 (p : Nat) (call : Nat → List ZA → CW → (ZRes → CW → Prop) → Prop) (Q : CW → Prop) (X : Nat → CW → Prop) (w : CW) : Prop :=
  pC_X0_settle_63 p call Q X 0 w
def pC_X0_settle_55 (p : Nat) (call : Nat → List ZA → CW → (ZRes → CW → Prop) → Prop) (Q : CW → Prop) (X : Nat → CW → Prop) (I2 : Int → CW → Prop) (x1 : Int) (w : CW) : Prop :=
  ∀ x1_26 : Int, x1_26 = w32 (x1 + 1) →
  I2 x1_26 w
def pC_X0_settle_49 (p : Nat) (call : Nat → List ZA → CW → (ZRes → CW → Prop) → Prop) (Q : CW → Prop) (X : Nat → CW → Prop) (I2 : Int → CW → Prop) (I19 : Int → CW → Prop) (x1 : Int) (x2 : Nat) (x3 : Int) (w : CW) : Prop :=
  ∀ x3_32 : Int, x3_32 = w32 (x3 + 1) →
  I19 x3_32 w
def pC_X0_settle_19 (p : Nat) (call : Nat → List ZA → CW → (ZRes → CW → Prop) → Prop) (Q : CW → Prop) (X : Nat → CW → Prop) (I2 : Int → CW → Prop) (x1 : Int) (x2 : Nat) (x3 : Int) (w : CW) : Prop :=
  ∀ I19 : Int → CW → Prop, (∀ (x3 : Int) (w : CW), (
    (hF 48 (tg w x2) = true) ∧
    ((fI w 48 x2) ≤ x3 →
      pC_X0_settle_55 p call Q X I2 x1 w) ∧
    (¬ ((fI w 48 x2) ≤ x3) →
      (hF 47 (tg w x2) = true) ∧
      ((111 ≤ tg w (fR w 47 x2) ∧ tg w (fR w 47 x2) ≤ 119) ∧ 0 ≤ x3 ∧ x3 < ln w (fR w 47 x2)) ∧
      ∀ x4_29 : Nat, x4_29 = aR w (fR w 47 x2) x3 →
      (hF 62 (tg w x4_29) = true) ∧
      ((fR w 62 x4_29) = 0 →
        pC_X0_settle_49 p call Q X I2 I19 x1 x2 x3 w) ∧
      (¬ ((fR w 62 x4_29) = 0) →
        call 42 [ar p, ar x4_29] w (zqV (fun u33 =>
          pC_X0_settle_49 p call Q X I2 I19 x1 x2 x3 u33) (fun x35 u36 =>
          X x35 u36))))) → I19 x3 w) → I19 x3 w
def pC_X0_settle_2 (p : Nat) (call : Nat → List ZA → CW → (ZRes → CW → Prop) → Prop) (Q : CW → Prop) (X : Nat → CW → Prop) (x1 : Int) (w : CW) : Prop :=
  ∀ I2 : Int → CW → Prop, (∀ (x1 : Int) (w : CW), (
    ((fI w 6 p) ≤ x1 →
      pC_X0_settle_61 p call Q X w) ∧
    (¬ ((fI w 6 p) ≤ x1) →
      ((111 ≤ tg w (fR w 5 p) ∧ tg w (fR w 5 p) ≤ 119) ∧ 0 ≤ x1 ∧ x1 < ln w (fR w 5 p)) ∧
      ∀ x2_23 : Nat, x2_23 = aR w (fR w 5 p) x1 →
      pC_X0_settle_19 p call Q X I2 x1 x2_23 0 w)) → I2 x1 w) → I2 x1 w
def pC_X0_settle_0 (p : Nat) (call : Nat → List ZA → CW → (ZRes → CW → Prop) → Prop) (Q : CW → Prop) (X : Nat → CW → Prop) (w : CW) : Prop :=
  pC_X0_settle_2 p call Q X 0 w
/-! LetterPost.settleCall(LLetterPost$Rule;)V -/
def pC_X0_settleCall_148 (p : Nat) (call : Nat → List ZA → CW → (ZRes → CW → Prop) → Prop) (Q : CW → Prop) (X : Nat → CW → Prop) (x1 : Nat) (x2 : Nat) (w : CW) : Prop :=
  (hP 66 (tg w x1) = true) ∧
  ∀ u17 : CW, u17 = pR w 66 x1 x2 →
  Q u17
def pC_X0_settleCall_132 (p : Nat) (call : Nat → List ZA → CW → (ZRes → CW → Prop) → Prop) (Q : CW → Prop) (X : Nat → CW → Prop) (I56 : Int → CW → Prop) (x1 : Nat) (x2 : Nat) (x3 : Int) (s0 : Int) (s1 : Nat) (w : CW) : Prop :=
  (hF 65 (tg w x1) = true) ∧
  (tg w (fR w 65 x1) = 102 ∧ 0 ≤ x3 ∧ x3 < ln w (fR w 65 x1)) ∧
  (tg w s1 = 1) ∧
  call 10 [ar s1, ai s0, ai 5, ai (aN w (fR w 65 x1) x3)] w (zqV (fun u30 =>
    ∀ x3_32 : Int, x3_32 = w32 (x3 + 1) →
    I56 x3_32 u30) (fun x33 u34 =>
    X x33 u34))
def pC_X0_settleCall_127 (p : Nat) (call : Nat → List ZA → CW → (ZRes → CW → Prop) → Prop) (Q : CW → Prop) (X : Nat → CW → Prop) (I56 : Int → CW → Prop) (x1 : Nat) (x2 : Nat) (x3 : Int) (s0 : Nat) (w : CW) : Prop :=
  pC_X0_settleCall_132 p call Q X I56 x1 x2 x3 1 s0 w
def pC_X0_settleCall_131 (p : Nat) (call : Nat → List ZA → CW → (ZRes → CW → Prop) → Prop) (Q : CW → Prop) (X : Nat → CW → Prop) (I56 : Int → CW → Prop) (x1 : Nat) (x2 : Nat) (x3 : Int) (s0 : Nat) (w : CW) : Prop :=
  pC_X0_settleCall_132 p call Q X I56 x1 x2 x3 0 s0 w
def pC_X0_settleCall_56 (p : Nat) (call : Nat → List ZA → CW → (ZRes → CW → Prop) → Prop) (Q : CW → Prop) (X : Nat → CW → Prop) (x1 : Nat) (x2 : Nat) (x3 : Int) (w : CW) : Prop :=
  ∀ I56 : Int → CW → Prop, (∀ (x3 : Int) (w : CW), (
    (hF 46 (tg w x2) = true) ∧
    ((fI w 46 x2) ≤ x3 →
      pC_X0_settleCall_148 p call Q X x1 x2 w) ∧
    (¬ ((fI w 46 x2) ≤ x3) →
      (hF 67 (tg w x1) = true) ∧
      (hF 62 (tg w x1) = true) ∧
      (tg w (fR w 62 x1) = 102 ∧ 0 ≤ x3 ∧ x3 < ln w (fR w 62 x1)) ∧
      (tg w (fR w 67 x1) = 102 ∧ 0 ≤ (aN w (fR w 62 x1) x3) ∧ (aN w (fR w 62 x1) x3) < ln w (fR w 67 x1)) ∧
      ∀ x4_23 : Int, x4_23 = aN w (fR w 67 x1) (aN w (fR w 62 x1) x3) →
      (hF 45 (tg w x2) = true) ∧
      (tg w (fR w 45 x2) = 102 ∧ 0 ≤ x3 ∧ x3 < ln w (fR w 45 x2)) ∧
      ∀ x5_26 : Int, x5_26 = aN w (fR w 45 x2) x3 →
      (x4_23 = x5_26 →
        pC_X0_settleCall_127 p call Q X I56 x1 x2 x3 p w) ∧
      (¬ (x4_23 = x5_26) →
        call 30 [ai x4_23] w (zqI (fun v37 u36 =>
          (v37 = 0 →
            pC_X0_settleCall_131 p call Q X I56 x1 x2 x3 p u36) ∧
          (¬ (v37 = 0) →
            call 30 [ai x5_26] u36 (zqI (fun v40 u39 =>
              (v40 = 0 →
                pC_X0_settleCall_131 p call Q X I56 x1 x2 x3 p u39) ∧
              (¬ (v40 = 0) →
                call 31 [ar p, ai x4_23] u39 (zqR (fun v43 u42 =>
                  call 31 [ar p, ai x5_26] u42 (zqR (fun v45 u44 =>
                    (tg u44 v43 = 3) ∧
                    call 83 [ar v43, ar v45] u44 (zqI (fun v47 u46 =>
                      (v47 = 0 →
                        pC_X0_settleCall_131 p call Q X I56 x1 x2 x3 p u46) ∧
                      (¬ (v47 = 0) →
                        pC_X0_settleCall_127 p call Q X I56 x1 x2 x3 p u46)) zno)) zno)) zno))) zno))) zno)))) → I56 x3 w) → I56 x3 w
def pC_X0_settleCall_0 (p : Nat) (call : Nat → List ZA → CW → (ZRes → CW → Prop) → Prop) (Q : CW → Prop) (X : Nat → CW → Prop) (x1 : Nat) (w : CW) : Prop :=
  (hF 63 (tg w x1) = true) ∧
  call 20 [ar p, al (fI w 63 x1)] w (zqR (fun v3 u2 =>
    ∀ v4 : Int, v4 = (if ¬ (v3 = 0) then 1 else 0) →
    (hF 64 (tg u2 x1) = true) ∧
    call 10 [ar p, ai v4, ai 4, ai (fI u2 64 x1)] u2 (zqV (fun u6 =>
      (hF 46 (tg u6 v3) = true) ∧
      (hF 62 (tg u6 x1) = true) ∧
      (101 ≤ tg u6 (fR u6 62 x1) ∧ tg u6 (fR u6 62 x1) ≤ 119 ∧ (tg u6 (fR u6 62 x1) < 107 ∨ 111 ≤ tg u6 (fR u6 62 x1))) ∧
      ∀ v11 : Int, v11 = (if (fI u6 46 v3) = ((ln u6 (fR u6 62 x1) : Nat) : Int) then 1 else 0) →
      (hF 64 (tg u6 x1) = true) ∧
      call 10 [ar p, ai v11, ai 6, ai (fI u6 64 x1)] u6 (zqV (fun u13 =>
        pC_X0_settleCall_56 p call Q X x1 v3 0 u13) (fun x50 u51 =>
        X x50 u51))) (fun x54 u55 =>
      X x54 u55))) zno)
/-! LetterPost.product([LLetterPost$Pattern;)I -/
def pC_X0_product_41 (p : Nat) (call : Nat → List ZA → CW → (ZRes → CW → Prop) → Prop) (Q : Int → CW → Prop) (x1 : Int) (w : CW) : Prop :=
  Q x1 w
def pC_X0_product_10 (p : Nat) (call : Nat → List ZA → CW → (ZRes → CW → Prop) → Prop) (Q : Int → CW → Prop) (x1 : Int) (x2 : Nat) (x3 : Int) (x4 : Int) (w : CW) : Prop :=
  ∀ I10 : Int → Int → CW → Prop, (∀ (x1 : Int) (x4 : Int) (w : CW), (
    (x3 ≤ x4 →
      pC_X0_product_41 p call Q x1 w) ∧
    (¬ (x3 ≤ x4) →
      ((111 ≤ tg w x2 ∧ tg w x2 ≤ 119) ∧ 0 ≤ x4 ∧ x4 < ln w x2) ∧
      ∀ x5_5 : Nat, x5_5 = aR w x2 x4 →
      call (vm0 (tg w x5_5)) [ar x5_5] w (zqI (fun v7 u6 =>
        ∀ x1_8 : Int, x1_8 = (if (w32 (x1 * v7)) < 41 then (w32 (x1 * v7)) else 41) →
        ∀ x4_9 : Int, x4_9 = w32 (x4 + 1) →
        I10 x1_8 x4_9 u6) zno))) → I10 x1 x4 w) → I10 x1 x4 w
def pC_X0_product_0 (p : Nat) (call : Nat → List ZA → CW → (ZRes → CW → Prop) → Prop) (Q : Int → CW → Prop) (x0 : Nat) (w : CW) : Prop :=
  (101 ≤ tg w x0 ∧ tg w x0 ≤ 119 ∧ (tg w x0 < 107 ∨ 111 ≤ tg w x0)) ∧
  ∀ x3_2 : Int, x3_2 = ((ln w x0 : Nat) : Int) →
  pC_X0_product_10 p call Q 1 x0 x3_2 0 w
/-! LetterPost.clear()V -/
def pC_X0_clear_46 (p : Nat) (call : Nat → List ZA → CW → (ZRes → CW → Prop) → Prop) (Q : CW → Prop) (w : CW) : Prop :=
  ∀ u3 : CW, u3 = pI w 1 p 0 →
  ∀ u4 : CW, u4 = pI u3 6 p 0 →
  Q u4
def pC_X0_clear_25 (p : Nat) (call : Nat → List ZA → CW → (ZRes → CW → Prop) → Prop) (Q : CW → Prop) (x1 : Int) (w : CW) : Prop :=
  ∀ I25 : Int → CW → Prop, (∀ (x1 : Int) (w : CW), (
    ((fI w 6 p) ≤ x1 →
      pC_X0_clear_46 p call Q w) ∧
    (¬ ((fI w 6 p) ≤ x1) →
      ((111 ≤ tg w (fR w 5 p) ∧ tg w (fR w 5 p) ≤ 119) ∧ 0 ≤ x1 ∧ x1 < ln w (fR w 5 p)) ∧
      ∀ u5 : CW, u5 = qR w (fR w 5 p) x1 0 →
      ∀ x1_7 : Int, x1_7 = w32 (x1 + 1) →
      I25 x1_7 u5)) → I25 x1 w) → I25 x1 w
def pC_X0_clear_23 (p : Nat) (call : Nat → List ZA → CW → (ZRes → CW → Prop) → Prop) (Q : CW → Prop) (w : CW) : Prop :=
  pC_X0_clear_25 p call Q 0 w
def pC_X0_clear_2 (p : Nat) (call : Nat → List ZA → CW → (ZRes → CW → Prop) → Prop) (Q : CW → Prop) (x1 : Int) (w : CW) : Prop :=
  ∀ I2 : Int → CW → Prop, (∀ (x1 : Int) (w : CW), (
    ((fI w 1 p) ≤ x1 →
      pC_X0_clear_23 p call Q w) ∧
    (¬ ((fI w 1 p) ≤ x1) →
      ((111 ≤ tg w (fR w 0 p) ∧ tg w (fR w 0 p) ≤ 119) ∧ 0 ≤ x1 ∧ x1 < ln w (fR w 0 p)) ∧
      ∀ u8 : CW, u8 = qR w (fR w 0 p) x1 0 →
      ∀ x1_10 : Int, x1_10 = w32 (x1 + 1) →
      I2 x1_10 u8)) → I2 x1 w) → I2 x1 w
def pC_X0_clear_0 (p : Nat) (call : Nat → List ZA → CW → (ZRes → CW → Prop) → Prop) (Q : CW → Prop) (w : CW) : Prop :=
  pC_X0_clear_2 p call Q 0 w
/-! LetterPost.fault()I -/
def pC_X0_fault_0 (p : Nat) (call : Nat → List ZA → CW → (ZRes → CW → Prop) → Prop) (Q : Int → CW → Prop) (w : CW) : Prop :=
  Q (fI w 21 p) w
/-! LetterPost.add()I -/
def pC_X0_add_101 (p : Nat) (call : Nat → List ZA → CW → (ZRes → CW → Prop) → Prop) (Q : Int → CW → Prop) (x2 : Int) (w : CW) : Prop :=
  ∀ u20 : CW, u20 = pI w 8 p 0 →
  Q x2 u20
def pC_X0_add_79 (p : Nat) (call : Nat → List ZA → CW → (ZRes → CW → Prop) → Prop) (Q : Int → CW → Prop) (x1 : Int) (s0 : Nat) (w : CW) : Prop :=
  (hF 35 (tg w s0) = true) ∧
  ∀ u24 : CW, u24 = pI w 21 p (fI w 35 s0) →
  ∀ u25 : CW, u25 = pI u24 1 p x1 →
  (hF 36 (tg u25 s0) = true) ∧
  ∀ x2_27 : Int, x2_27 = w32 ((-10) - (fI u25 36 s0)) →
  pC_X0_add_101 p call Q x2_27 u25
def pC_X0_add_0 (p : Nat) (call : Nat → List ZA → CW → (ZRes → CW → Prop) → Prop) (Q : Int → CW → Prop) (w : CW) : Prop :=
  ((fI w 22 p) = 0 →
    Q (-2) w) ∧
  (¬ ((fI w 22 p) = 0) →
    ∀ u2 : CW, u2 = pI w 21 p 0 →
    ∀ x1_3 : Int, x1_3 = fI u2 1 p →
    call 3 [ar p] u2 (zqV (fun u4 =>
      call 12 [ar p, ar (sr u4 3)] u4 (zqI (fun v7 u6 =>
        call 14 [ar p, ai v7] u6 (zqV (fun u8 =>
          call 4 [ar p] u8 (zqV (fun u10 =>
            call 13 [ar p, ai 1] u10 (zqV (fun u12 =>
              call 4 [ar p] u12 (zqV (fun u14 =>
                ∀ v16 : Int, v16 = (if (fI u14 10 p) = 0 then 1 else 0) →
                call 14 [ar p, ai v16] u14 (zqV (fun u17 =>
                  ∀ u19 : CW, u19 = pI u17 2 p (w32 ((fI u17 2 p) + 1)) →
                  pC_X0_add_101 p call Q x1_3 u19) (fun x21 u22 =>
                  tg u22 x21 = 2 ∧
                  pC_X0_add_79 p call Q x1_3 x21 u22))) (fun x30 u31 =>
                tg u31 x30 = 2 ∧
                pC_X0_add_79 p call Q x1_3 x30 u31))) (fun x32 u33 =>
              tg u33 x32 = 2 ∧
              pC_X0_add_79 p call Q x1_3 x32 u33))) (fun x34 u35 =>
            tg u35 x34 = 2 ∧
            pC_X0_add_79 p call Q x1_3 x34 u35))) (fun x36 u37 =>
          tg u37 x36 = 2 ∧
          pC_X0_add_79 p call Q x1_3 x36 u37))) zno)) (fun x38 u39 =>
      tg u39 x38 = 2 ∧
      pC_X0_add_79 p call Q x1_3 x38 u39)))
/-! LetterPost.remake(II)I -/
def pC_X0_remake_20 (p : Nat) (call : Nat → List ZA → CW → (ZRes → CW → Prop) → Prop) (Q : Int → CW → Prop) (w : CW) : Prop :=
  Q (-1) w
def pC_X0_remake_42 (p : Nat) (call : Nat → List ZA → CW → (ZRes → CW → Prop) → Prop) (Q : Int → CW → Prop) (s0 : Nat) (w : CW) : Prop :=
  Q (-3) w
def pC_X0_remake_0 (p : Nat) (call : Nat → List ZA → CW → (ZRes → CW → Prop) → Prop) (Q : Int → CW → Prop) (x1 : Int) (x2 : Int) (w : CW) : Prop :=
  call 48 [ar p, ai x1] w (zqI (fun v2 u1 =>
    (v2 = 0 →
      pC_X0_remake_20 p call Q u1) ∧
    (¬ (v2 = 0) →
      call 1 [al x2, al 0, al 3] u1 (zqI (fun v5 u4 =>
        (v5 = 0 →
          pC_X0_remake_20 p call Q u4) ∧
        (¬ (v5 = 0) →
          ((111 ≤ tg u4 (fR u4 5 p) ∧ tg u4 (fR u4 5 p) ≤ 119) ∧ 0 ≤ x1 ∧ x1 < ln u4 (fR u4 5 p)) ∧
          ∀ x3_8 : Nat, x3_8 = aR u4 (fR u4 5 p) x1 →
          (tg u4 x3_8 = 4) ∧
          call 88 [ar x3_8, ai x2] u4 (zqV (fun u9 =>
            (hF 52 (tg u9 x3_8) = true) ∧
            (tg u9 (fR u9 52 x3_8) = 19 ∨ tg u9 (fR u9 52 x3_8) = 20 ∨ tg u9 (fR u9 52 x3_8) = 21 ∨ tg u9 (fR u9 52 x3_8) = 22 ∨ tg u9 (fR u9 52 x3_8) = 23 ∨ tg u9 (fR u9 52 x3_8) = 24 ∨ tg u9 (fR u9 52 x3_8) = 25) ∧
            call 153 [ar (fR u9 52 x3_8)] u9 (zqI (fun v13 u12 =>
              Q v13 u12) zno)) (fun x16 u17 =>
            tg u17 x16 = 18 ∧
            pC_X0_remake_42 p call Q x16 u17)))) zno))) zno)
/-! LetterPost.isFunction(I)Z -/
def pC_X0_isFunction_0 (p : Nat) (call : Nat → List ZA → CW → (ZRes → CW → Prop) → Prop) (Q : Int → CW → Prop) (x1 : Int) (w : CW) : Prop :=
  call 1 [al x1, al 0, al (w32 ((fI w 6 p) - 1))] w (zqI (fun v2 u1 =>
    (v2 = 0 ∨ v2 = 1) ∧
    Q v2 u1) zno)
/-! LetterPost.kind(II)I -/
def pC_X0_kind_28 (p : Nat) (call : Nat → List ZA → CW → (ZRes → CW → Prop) → Prop) (Q : Int → CW → Prop) (w : CW) : Prop :=
  Q (-1) w
def pC_X0_kind_148 (p : Nat) (call : Nat → List ZA → CW → (ZRes → CW → Prop) → Prop) (Q : Int → CW → Prop) (x2 : Int) (x3 : Nat) (w : CW) : Prop :=
  (hF 42 (tg w x3) = true) ∧
  ((¬ ((fI w 42 x3) ≤ (w32 (x2 - 3))) → (hF 41 (tg w x3) = true) ∧ (tg w (fR w 41 x3) = 102 ∧ 0 ≤ (w32 (x2 - 3)) ∧ (w32 (x2 - 3)) < ln w (fR w 41 x3)))) ∧
  ∀ v10 : Int, v10 = (if ¬ ((fI w 42 x3) ≤ (w32 (x2 - 3))) then aN w (fR w 41 x3) (w32 (x2 - 3)) else (-4)) →
  Q v10 w
def pC_X0_kind_0 (p : Nat) (call : Nat → List ZA → CW → (ZRes → CW → Prop) → Prop) (Q : Int → CW → Prop) (x1 : Int) (x2 : Int) (w : CW) : Prop :=
  call 1 [al x1, al 0, al (w32 ((fI w 1 p) - 1))] w (zqI (fun v2 u1 =>
    (v2 = 0 →
      pC_X0_kind_28 p call Q u1) ∧
    (¬ (v2 = 0) →
      call 1 [al x2, al 0, al 7] u1 (zqI (fun v5 u4 =>
        (v5 = 0 →
          pC_X0_kind_28 p call Q u4) ∧
        (¬ (v5 = 0) →
          ((111 ≤ tg u4 (fR u4 0 p) ∧ tg u4 (fR u4 0 p) ≤ 119) ∧ 0 ≤ x1 ∧ x1 < ln u4 (fR u4 0 p)) ∧
          ∀ x3_8 : Nat, x3_8 = aR u4 (fR u4 0 p) x1 →
          (x2 = 0 →
            (hF 39 (tg u4 x3_8) = true) ∧
            ((¬ ((fR u4 39 x3_8) = 0) → (hF 39 (tg u4 x3_8) = true) ∧ (hF 37 (tg u4 (fR u4 39 x3_8)) = true))) ∧
            ∀ v15 : Int, v15 = (if (fR u4 39 x3_8) = 0 then (-4) else fI u4 37 (fR u4 39 x3_8)) →
            Q v15 u4) ∧
          (x2 = 1 →
            (hF 40 (tg u4 x3_8) = true) ∧
            ∀ v21 : Int, v21 = (if ¬ ((fI u4 40 x3_8) = 0) then 1 else 0) →
            Q v21 u4) ∧
          (x2 = 2 →
            (hF 42 (tg u4 x3_8) = true) ∧
            Q (fI u4 42 x3_8) u4) ∧
          (x2 = 7 →
            ((¬ ((fI u4 6 p) ≤ 0) → ((111 ≤ tg u4 (fR u4 5 p) ∧ tg u4 (fR u4 5 p) ≤ 119) ∧ 0 ≤ (0 : Int) ∧ (0 : Int) < ln u4 (fR u4 5 p)) ∧ (hF 54 (tg u4 (aR u4 (fR u4 5 p) 0)) = true))) ∧
            ∀ v27 : Int, v27 = (if ¬ ((fI u4 6 p) ≤ 0) ∧ (¬ (x1 < (fI u4 54 (aR u4 (fR u4 5 p) 0)))) then 1 else 0) →
            Q v27 u4) ∧
          (¬ x2 = 0 → ¬ x2 = 1 → ¬ x2 = 2 → ¬ x2 = 7 → 
            pC_X0_kind_148 p call Q x2 x3_8 u4))) zno))) zno)
/-! LetterPost.kindNamed(J)I -/
def pC_X0_kindNamed_0 (p : Nat) (call : Nat → List ZA → CW → (ZRes → CW → Prop) → Prop) (Q : Int → CW → Prop) (x1 : Int) (w : CW) : Prop :=
  call 15 [ar p, al x1] w (zqR (fun v2 u1 =>
    ((¬ (v2 = 0) → (hF 37 (tg u1 v2) = true))) ∧
    ∀ v3 : Int, v3 = (if v2 = 0 then (-4) else fI u1 37 v2) →
    Q v3 u1) zno)
/-! LetterPost.function(II)I -/
def pC_X0_function_20 (p : Nat) (call : Nat → List ZA → CW → (ZRes → CW → Prop) → Prop) (Q : Int → CW → Prop) (w : CW) : Prop :=
  Q (-1) w
def pC_X0_function_0 (p : Nat) (call : Nat → List ZA → CW → (ZRes → CW → Prop) → Prop) (Q : Int → CW → Prop) (x1 : Int) (x2 : Int) (w : CW) : Prop :=
  call 48 [ar p, ai x1] w (zqI (fun v2 u1 =>
    (v2 = 0 →
      pC_X0_function_20 p call Q u1) ∧
    (¬ (v2 = 0) →
      call 1 [al x2, al 0, al 8] u1 (zqI (fun v5 u4 =>
        (v5 = 0 →
          pC_X0_function_20 p call Q u4) ∧
        (¬ (v5 = 0) →
          ((111 ≤ tg u4 (fR u4 5 p) ∧ tg u4 (fR u4 5 p) ≤ 119) ∧ 0 ≤ x1 ∧ x1 < ln u4 (fR u4 5 p)) ∧
          ∀ x3_8 : Nat, x3_8 = aR u4 (fR u4 5 p) x1 →
          (x2 = 0 →
            (hF 46 (tg u4 x3_8) = true) ∧
            Q (fI u4 46 x3_8) u4) ∧
          (x2 = 1 →
            (hF 48 (tg u4 x3_8) = true) ∧
            Q (fI u4 48 x3_8) u4) ∧
          (x2 = 2 →
            (hF 49 (tg u4 x3_8) = true) ∧
            (101 ≤ tg u4 (fR u4 49 x3_8) ∧ tg u4 (fR u4 49 x3_8) ≤ 119 ∧ (tg u4 (fR u4 49 x3_8) < 107 ∨ 111 ≤ tg u4 (fR u4 49 x3_8))) ∧
            Q ((ln u4 (fR u4 49 x3_8) : Nat) : Int) u4) ∧
          (x2 = 3 →
            (hF 52 (tg u4 x3_8) = true) ∧
            (tg u4 (fR u4 52 x3_8) = 19 ∨ tg u4 (fR u4 52 x3_8) = 20 ∨ tg u4 (fR u4 52 x3_8) = 21 ∨ tg u4 (fR u4 52 x3_8) = 22 ∨ tg u4 (fR u4 52 x3_8) = 23 ∨ tg u4 (fR u4 52 x3_8) = 24 ∨ tg u4 (fR u4 52 x3_8) = 25) ∧
            call 153 [ar (fR u4 52 x3_8)] u4 (zqI (fun v23 u22 =>
              Q v23 u22) zno)) ∧
          (x2 = 4 →
            (hF 53 (tg u4 x3_8) = true) ∧
            Q (fI u4 53 x3_8) u4) ∧
          (x2 = 5 →
            (hF 52 (tg u4 x3_8) = true) ∧
            (tg u4 (fR u4 52 x3_8) = 19 ∨ tg u4 (fR u4 52 x3_8) = 20 ∨ tg u4 (fR u4 52 x3_8) = 21 ∨ tg u4 (fR u4 52 x3_8) = 22 ∨ tg u4 (fR u4 52 x3_8) = 23 ∨ tg u4 (fR u4 52 x3_8) = 24 ∨ tg u4 (fR u4 52 x3_8) = 25) ∧
            call 154 [ar (fR u4 52 x3_8)] u4 (zqI (fun v31 u30 =>
              Q v31 u30) zno)) ∧
          (¬ x2 = 0 → ¬ x2 = 1 → ¬ x2 = 2 → ¬ x2 = 3 → ¬ x2 = 4 → ¬ x2 = 5 → 
            (hF 46 (tg u4 x3_8) = true) ∧
            ((¬ ((fI u4 46 x3_8) ≤ (w32 (x2 - 6))) → (hF 45 (tg u4 x3_8) = true) ∧ (tg u4 (fR u4 45 x3_8) = 102 ∧ 0 ≤ (w32 (x2 - 6)) ∧ (w32 (x2 - 6)) < ln u4 (fR u4 45 x3_8)))) ∧
            ∀ v10 : Int, v10 = (if ¬ ((fI u4 46 x3_8) ≤ (w32 (x2 - 6))) then aN u4 (fR u4 45 x3_8) (w32 (x2 - 6)) else (-4)) →
            Q v10 u4))) zno))) zno)
/-! LetterPost.node(III)I -/
def pC_X0_node_21 (p : Nat) (call : Nat → List ZA → CW → (ZRes → CW → Prop) → Prop) (Q : Int → CW → Prop) (w : CW) : Prop :=
  Q (-1) w
def pC_X0_node_146 (p : Nat) (call : Nat → List ZA → CW → (ZRes → CW → Prop) → Prop) (Q : Int → CW → Prop) (s0 : Int) (w : CW) : Prop :=
  Q s0 w
def pC_X0_node_95 (p : Nat) (call : Nat → List ZA → CW → (ZRes → CW → Prop) → Prop) (Q : Int → CW → Prop) (s0 : Int) (w : CW) : Prop :=
  Q s0 w
def pC_X0_node_124 (p : Nat) (call : Nat → List ZA → CW → (ZRes → CW → Prop) → Prop) (Q : Int → CW → Prop) (s0 : Int) (w : CW) : Prop :=
  Q s0 w
def pC_X0_node_0 (p : Nat) (call : Nat → List ZA → CW → (ZRes → CW → Prop) → Prop) (Q : Int → CW → Prop) (x1 : Int) (x2 : Int) (x3 : Int) (w : CW) : Prop :=
  call 53 [ar p, ai x1, ai x2] w (zqI (fun v2 u1 =>
    (v2 = 0 →
      pC_X0_node_21 p call Q u1) ∧
    (¬ (v2 = 0) →
      call 1 [al x3, al 0, al 4] u1 (zqI (fun v5 u4 =>
        (v5 = 0 →
          pC_X0_node_21 p call Q u4) ∧
        (¬ (v5 = 0) →
          ((111 ≤ tg u4 (fR u4 5 p) ∧ tg u4 (fR u4 5 p) ≤ 119) ∧ 0 ≤ x1 ∧ x1 < ln u4 (fR u4 5 p)) ∧
          (hF 52 (tg u4 (aR u4 (fR u4 5 p) x1)) = true) ∧
          (tg u4 (fR u4 52 (aR u4 (fR u4 5 p) x1)) = 19 ∨ tg u4 (fR u4 52 (aR u4 (fR u4 5 p) x1)) = 20 ∨ tg u4 (fR u4 52 (aR u4 (fR u4 5 p) x1)) = 21 ∨ tg u4 (fR u4 52 (aR u4 (fR u4 5 p) x1)) = 22 ∨ tg u4 (fR u4 52 (aR u4 (fR u4 5 p) x1)) = 23 ∨ tg u4 (fR u4 52 (aR u4 (fR u4 5 p) x1)) = 24 ∨ tg u4 (fR u4 52 (aR u4 (fR u4 5 p) x1)) = 25) ∧
          call 155 [ar (fR u4 52 (aR u4 (fR u4 5 p) x1)), ai x2] u4 (zqR (fun v10 u9 =>
            (x3 = 0 →
              call (vm2 (tg u9 v10)) [ar v10] u9 (zqI (fun v34 u33 =>
                Q v34 u33) zno)) ∧
            (x3 = 1 →
              call (vm3 (tg u9 v10)) [ar v10] u9 (zqR (fun v45 u44 =>
                (v45 = 0 →
                  pC_X0_node_95 p call Q (-4) u44) ∧
                (¬ (v45 = 0) →
                  call (vm3 (tg u44 v10)) [ar v10] u44 (zqR (fun v48 u47 =>
                    (hF 56 (tg u47 v48) = true) ∧
                    pC_X0_node_95 p call Q (fI u47 56 v48) u47) zno))) zno)) ∧
            (x3 = 2 →
              (hF 107 (tg u9 v10) = true) ∧
              (101 ≤ tg u9 (fR u9 107 v10) ∧ tg u9 (fR u9 107 v10) ≤ 119 ∧ (tg u9 (fR u9 107 v10) < 107 ∨ 111 ≤ tg u9 (fR u9 107 v10))) ∧
              Q ((ln u9 (fR u9 107 v10) : Nat) : Int) u9) ∧
            (x3 = 3 →
              call (vm1 (tg u9 v10)) [ar v10] u9 (zqR (fun v71 u70 =>
                (v71 = 0 →
                  pC_X0_node_124 p call Q (-4) u70) ∧
                (¬ (v71 = 0) →
                  call (vm1 (tg u70 v10)) [ar v10] u70 (zqR (fun v74 u73 =>
                    (hF 90 (tg u73 v74) = true) ∧
                    pC_X0_node_124 p call Q (fI u73 90 v74) u73) zno))) zno)) ∧
            (¬ x3 = 0 → ¬ x3 = 1 → ¬ x3 = 2 → ¬ x3 = 3 → 
              call (vm1 (tg u9 v10)) [ar v10] u9 (zqR (fun v12 u11 =>
                (v12 = 0 →
                  pC_X0_node_146 p call Q (-4) u11) ∧
                (¬ (v12 = 0) →
                  call (vm1 (tg u11 v10)) [ar v10] u11 (zqR (fun v15 u14 =>
                    (hF 87 (tg u14 v15) = true) ∧
                    pC_X0_node_146 p call Q (fI u14 87 v15) u14) zno))) zno))) zno))) zno))) zno)
/-! LetterPost.isNode(II)Z -/
def pC_X0_isNode_37 (p : Nat) (call : Nat → List ZA → CW → (ZRes → CW → Prop) → Prop) (Q : Int → CW → Prop) (s0 : Int) (w : CW) : Prop :=
  (s0 = 0 ∨ s0 = 1) ∧
  Q s0 w
def pC_X0_isNode_36 (p : Nat) (call : Nat → List ZA → CW → (ZRes → CW → Prop) → Prop) (Q : Int → CW → Prop) (w : CW) : Prop :=
  pC_X0_isNode_37 p call Q 0 w
def pC_X0_isNode_0 (p : Nat) (call : Nat → List ZA → CW → (ZRes → CW → Prop) → Prop) (Q : Int → CW → Prop) (x1 : Int) (x2 : Int) (w : CW) : Prop :=
  call 48 [ar p, ai x1] w (zqI (fun v2 u1 =>
    (v2 = 0 →
      pC_X0_isNode_36 p call Q u1) ∧
    (¬ (v2 = 0) →
      ((111 ≤ tg u1 (fR u1 5 p) ∧ tg u1 (fR u1 5 p) ≤ 119) ∧ 0 ≤ x1 ∧ x1 < ln u1 (fR u1 5 p)) ∧
      (hF 52 (tg u1 (aR u1 (fR u1 5 p) x1)) = true) ∧
      (tg u1 (fR u1 52 (aR u1 (fR u1 5 p) x1)) = 19 ∨ tg u1 (fR u1 52 (aR u1 (fR u1 5 p) x1)) = 20 ∨ tg u1 (fR u1 52 (aR u1 (fR u1 5 p) x1)) = 21 ∨ tg u1 (fR u1 52 (aR u1 (fR u1 5 p) x1)) = 22 ∨ tg u1 (fR u1 52 (aR u1 (fR u1 5 p) x1)) = 23 ∨ tg u1 (fR u1 52 (aR u1 (fR u1 5 p) x1)) = 24 ∨ tg u1 (fR u1 52 (aR u1 (fR u1 5 p) x1)) = 25) ∧
      call 153 [ar (fR u1 52 (aR u1 (fR u1 5 p) x1))] u1 (zqI (fun v7 u6 =>
        call 1 [al x2, al 0, al (w32 (v7 - 1))] u6 (zqI (fun v9 u8 =>
          (v9 = 0 →
            pC_X0_isNode_36 p call Q u8) ∧
          (¬ (v9 = 0) →
            pC_X0_isNode_37 p call Q 1 u8)) zno)) zno))) zno)
/-! LetterPost.branch(III)I -/
def pC_X0_branch_0 (p : Nat) (call : Nat → List ZA → CW → (ZRes → CW → Prop) → Prop) (Q : Int → CW → Prop) (x1 : Int) (x2 : Int) (x3 : Int) (w : CW) : Prop :=
  call 53 [ar p, ai x1, ai x2] w (zqI (fun v2 u1 =>
    (v2 = 0 →
      Q (-1) u1) ∧
    (¬ (v2 = 0) →
      ((111 ≤ tg u1 (fR u1 5 p) ∧ tg u1 (fR u1 5 p) ≤ 119) ∧ 0 ≤ x1 ∧ x1 < ln u1 (fR u1 5 p)) ∧
      (hF 52 (tg u1 (aR u1 (fR u1 5 p) x1)) = true) ∧
      (tg u1 (fR u1 52 (aR u1 (fR u1 5 p) x1)) = 19 ∨ tg u1 (fR u1 52 (aR u1 (fR u1 5 p) x1)) = 20 ∨ tg u1 (fR u1 52 (aR u1 (fR u1 5 p) x1)) = 21 ∨ tg u1 (fR u1 52 (aR u1 (fR u1 5 p) x1)) = 22 ∨ tg u1 (fR u1 52 (aR u1 (fR u1 5 p) x1)) = 23 ∨ tg u1 (fR u1 52 (aR u1 (fR u1 5 p) x1)) = 24 ∨ tg u1 (fR u1 52 (aR u1 (fR u1 5 p) x1)) = 25) ∧
      call 155 [ar (fR u1 52 (aR u1 (fR u1 5 p) x1)), ai x2] u1 (zqR (fun v7 u6 =>
        (hF 107 (tg u6 v7) = true) ∧
        (101 ≤ tg u6 (fR u6 107 v7) ∧ tg u6 (fR u6 107 v7) ≤ 119 ∧ (tg u6 (fR u6 107 v7) < 107 ∨ 111 ≤ tg u6 (fR u6 107 v7))) ∧
        call 1 [al x3, al 0, al (w32 (((ln u6 (fR u6 107 v7) : Nat) : Int) - 1))] u6 (zqI (fun v11 u10 =>
          ((¬ (v11 = 0) → (hF 107 (tg u10 v7) = true) ∧ ((111 ≤ tg u10 (fR u10 107 v7) ∧ tg u10 (fR u10 107 v7) ≤ 119) ∧ 0 ≤ x3 ∧ x3 < ln u10 (fR u10 107 v7)) ∧ (hF 106 (tg u10 (aR u10 (fR u10 107 v7) x3)) = true))) ∧
          ∀ v12 : Int, v12 = (if ¬ (v11 = 0) then fI u10 106 (aR u10 (fR u10 107 v7) x3) else (-1)) →
          Q v12 u10) zno)) zno))) zno)
/-! LetterPost.missing(I)I -/
def pC_X0_missing_34 (p : Nat) (call : Nat → List ZA → CW → (ZRes → CW → Prop) → Prop) (Q : Int → CW → Prop) (s0 : Nat) (w : CW) : Prop :=
  Q (-3) w
def pC_X0_missing_0 (p : Nat) (call : Nat → List ZA → CW → (ZRes → CW → Prop) → Prop) (Q : Int → CW → Prop) (x1 : Int) (w : CW) : Prop :=
  call 48 [ar p, ai x1] w (zqI (fun v2 u1 =>
    (v2 = 0 →
      Q (-1) u1) ∧
    (¬ (v2 = 0) →
      ((111 ≤ tg u1 (fR u1 5 p) ∧ tg u1 (fR u1 5 p) ≤ 119) ∧ 0 ≤ x1 ∧ x1 < ln u1 (fR u1 5 p)) ∧
      (tg u1 (aR u1 (fR u1 5 p) x1) = 4) ∧
      call 89 [ar (aR u1 (fR u1 5 p) x1), ai 0, ai 1] u1 (zqR (fun v6 u5 =>
        (tg u5 v6 = 19 ∨ tg u5 v6 = 20 ∨ tg u5 v6 = 21 ∨ tg u5 v6 = 22 ∨ tg u5 v6 = 23 ∨ tg u5 v6 = 24 ∨ tg u5 v6 = 25) ∧
        call 159 [ar v6, ar 0] u5 (zqI (fun v8 u7 =>
          ∀ v9 : Int, v9 = (if ¬ (v8 = 0) then 1 else 0) →
          Q v9 u7) zno)) (fun x14 u15 =>
        tg u15 x14 = 18 ∧
        pC_X0_missing_34 p call Q x14 u15)))) zno)
/-! LetterPost.unreached(II)I -/
def pC_X0_unreached_29 (p : Nat) (call : Nat → List ZA → CW → (ZRes → CW → Prop) → Prop) (Q : Int → CW → Prop) (w : CW) : Prop :=
  Q (-1) w
def pC_X0_unreached_65 (p : Nat) (call : Nat → List ZA → CW → (ZRes → CW → Prop) → Prop) (Q : Int → CW → Prop) (s0 : Nat) (w : CW) : Prop :=
  Q (-3) w
def pC_X0_unreached_0 (p : Nat) (call : Nat → List ZA → CW → (ZRes → CW → Prop) → Prop) (Q : Int → CW → Prop) (x1 : Int) (x2 : Int) (w : CW) : Prop :=
  call 48 [ar p, ai x1] w (zqI (fun v2 u1 =>
    (v2 = 0 →
      pC_X0_unreached_29 p call Q u1) ∧
    (¬ (v2 = 0) →
      ((111 ≤ tg u1 (fR u1 5 p) ∧ tg u1 (fR u1 5 p) ≤ 119) ∧ 0 ≤ x1 ∧ x1 < ln u1 (fR u1 5 p)) ∧
      (hF 48 (tg u1 (aR u1 (fR u1 5 p) x1)) = true) ∧
      call 1 [al x2, al 0, al (w32 ((fI u1 48 (aR u1 (fR u1 5 p) x1)) - 1))] u1 (zqI (fun v7 u6 =>
        (v7 = 0 →
          pC_X0_unreached_29 p call Q u6) ∧
        (¬ (v7 = 0) →
          ((111 ≤ tg u6 (fR u6 5 p) ∧ tg u6 (fR u6 5 p) ≤ 119) ∧ 0 ≤ x1 ∧ x1 < ln u6 (fR u6 5 p)) ∧
          (tg u6 (aR u6 (fR u6 5 p) x1) = 4) ∧
          call 89 [ar (aR u6 (fR u6 5 p) x1), ai 0, ai 0] u6 (zqR (fun v11 u10 =>
            ((111 ≤ tg u10 (fR u10 5 p) ∧ tg u10 (fR u10 5 p) ≤ 119) ∧ 0 ≤ x1 ∧ x1 < ln u10 (fR u10 5 p)) ∧
            (hF 47 (tg u10 (aR u10 (fR u10 5 p) x1)) = true) ∧
            ((111 ≤ tg u10 (fR u10 47 (aR u10 (fR u10 5 p) x1)) ∧ tg u10 (fR u10 47 (aR u10 (fR u10 5 p) x1)) ≤ 119) ∧ 0 ≤ x2 ∧ x2 < ln u10 (fR u10 47 (aR u10 (fR u10 5 p) x1))) ∧
            (tg u10 v11 = 19 ∨ tg u10 v11 = 20 ∨ tg u10 v11 = 21 ∨ tg u10 v11 = 22 ∨ tg u10 v11 = 23 ∨ tg u10 v11 = 24 ∨ tg u10 v11 = 25) ∧
            call 159 [ar v11, ar (aR u10 (fR u10 47 (aR u10 (fR u10 5 p) x1)) x2)] u10 (zqI (fun v16 u15 =>
              ∀ v17 : Int, v17 = (if v16 = 0 then 1 else 0) →
              Q v17 u15) zno)) (fun x22 u23 =>
            tg u23 x22 = 18 ∧
            pC_X0_unreached_65 p call Q x22 u23)))) zno))) zno)
/-! LetterPost.whole(I)I -/
def pC_X0_whole_31 (p : Nat) (call : Nat → List ZA → CW → (ZRes → CW → Prop) → Prop) (Q : Int → CW → Prop) (s0 : Int) (w : CW) : Prop :=
  Q s0 w
def pC_X0_whole_0 (p : Nat) (call : Nat → List ZA → CW → (ZRes → CW → Prop) → Prop) (Q : Int → CW → Prop) (x1 : Int) (w : CW) : Prop :=
  ((fI w 4 p) = 160 →
    pC_X0_whole_31 p call Q (-3) w) ∧
  (¬ ((fI w 4 p) = 160) →
    (cz w + 1 ≤ mz w ∧ cu w + 3 ≤ mu w) ∧
    ∀ u2 : CW, u2 = nO w 26 3 →
    call 186 [ar (cz w + 1), ai (fI u2 4 p), ai x1] u2 (zqV (fun u4 =>
      call 58 [ar p, ar (cz w + 1)] u4 (zqI (fun v7 u6 =>
        pC_X0_whole_31 p call Q v7 u6) zno)) zno))
/-! LetterPost.keep(LLetterPost$Value;)I -/
def pC_X0_keep_0 (p : Nat) (call : Nat → List ZA → CW → (ZRes → CW → Prop) → Prop) (Q : Int → CW → Prop) (x1 : Nat) (w : CW) : Prop :=
  ((111 ≤ tg w (fR w 3 p) ∧ tg w (fR w 3 p) ≤ 119) ∧ 0 ≤ (fI w 4 p) ∧ (fI w 4 p) < ln w (fR w 3 p)) ∧
  (x1 = 0 ∨ zst (tg w (fR w 3 p)) (tg w x1) = true) ∧
  ∀ u1 : CW, u1 = qR w (fR w 3 p) (fI w 4 p) x1 →
  ∀ u4 : CW, u4 = pI u1 4 p (w32 ((fI u1 4 p) + 1)) →
  (hF 113 (tg u4 x1) = true) ∧
  Q (fI u4 113 x1) u4
/-! LetterPost.truth(I)I -/
def pC_X0_truth_39 (p : Nat) (call : Nat → List ZA → CW → (ZRes → CW → Prop) → Prop) (Q : Int → CW → Prop) (s0 : Int) (w : CW) : Prop :=
  Q s0 w
def pC_X0_truth_0 (p : Nat) (call : Nat → List ZA → CW → (ZRes → CW → Prop) → Prop) (Q : Int → CW → Prop) (x1 : Int) (w : CW) : Prop :=
  ((fI w 4 p) = 160 →
    pC_X0_truth_39 p call Q (-3) w) ∧
  (¬ ((fI w 4 p) = 160) →
    (cz w + 1 ≤ mz w ∧ cu w + 3 ≤ mu w) ∧
    ∀ u2 : CW, u2 = nO w 27 3 →
    ∀ v4 : Int, v4 = (if ¬ (x1 = 0) then 1 else 0) →
    call 190 [ar (cz w + 1), ai (fI u2 4 p), ai v4] u2 (zqV (fun u5 =>
      call 58 [ar p, ar (cz w + 1)] u5 (zqI (fun v8 u7 =>
        pC_X0_truth_39 p call Q v8 u7) zno)) zno))
/-! LetterPost.letters(J)I -/
def pC_X0_letters_95 (p : Nat) (call : Nat → List ZA → CW → (ZRes → CW → Prop) → Prop) (Q : Int → CW → Prop) (s0 : Int) (w : CW) : Prop :=
  Q s0 w
def pC_X0_letters_64 (p : Nat) (call : Nat → List ZA → CW → (ZRes → CW → Prop) → Prop) (Q : Int → CW → Prop) (x1 : Int) (w : CW) : Prop :=
  ((fI w 4 p) = 160 →
    pC_X0_letters_95 p call Q (-3) w) ∧
  (¬ ((fI w 4 p) = 160) →
    (cz w + 1 ≤ mz w ∧ cu w + 3 ≤ mu w) ∧
    ∀ u3 : CW, u3 = nO w 28 3 →
    call 192 [ar (cz w + 1), ai (fI u3 4 p), al x1] u3 (zqV (fun u5 =>
      call 58 [ar p, ar (cz w + 1)] u5 (zqI (fun v8 u7 =>
        pC_X0_letters_95 p call Q v8 u7) zno)) zno))
def pC_X0_letters_58 (p : Nat) (call : Nat → List ZA → CW → (ZRes → CW → Prop) → Prop) (Q : Int → CW → Prop) (I5 : Int → Int → CW → Prop) (x1 : Int) (x3 : Int) (x4 : Int) (w : CW) : Prop :=
  ∀ x4_13 : Int, x4_13 = w32 (x4 + 1) →
  I5 x3 x4_13 w
def pC_X0_letters_56 (p : Nat) (call : Nat → List ZA → CW → (ZRes → CW → Prop) → Prop) (Q : Int → CW → Prop) (w : CW) : Prop :=
  Q (-1) w
def pC_X0_letters_5 (p : Nat) (call : Nat → List ZA → CW → (ZRes → CW → Prop) → Prop) (Q : Int → CW → Prop) (x1 : Int) (x3 : Int) (x4 : Int) (w : CW) : Prop :=
  ∀ I5 : Int → Int → CW → Prop, (∀ (x3 : Int) (x4 : Int) (w : CW), (
    (8 ≤ x4 →
      pC_X0_letters_64 p call Q x1 w) ∧
    (¬ (8 ≤ x4) →
      ∀ x5_9 : Int, x5_9 = i_and (w32 (l_shr x1 (w32 (8 * x4)))) 255 →
      ∀ v10 : Int, v10 = (if x5_9 = 0 then 1 else 0) →
      ∀ x3_11 : Int, x3_11 = i_or x3 v10 →
      (x5_9 = 0 →
        pC_X0_letters_58 p call Q I5 x1 x3_11 x4 w) ∧
      (¬ (x5_9 = 0) →
        (x3_11 = 0 →
          call 7 [ai x5_9] w (zqI (fun v16 u15 =>
            (v16 = 0 →
              pC_X0_letters_56 p call Q u15) ∧
            (¬ (v16 = 0) →
              pC_X0_letters_58 p call Q I5 x1 x3_11 x4 u15)) zno)) ∧
        (¬ (x3_11 = 0) →
          pC_X0_letters_56 p call Q w)))) → I5 x3 x4 w) → I5 x3 x4 w
def pC_X0_letters_0 (p : Nat) (call : Nat → List ZA → CW → (ZRes → CW → Prop) → Prop) (Q : Int → CW → Prop) (x1 : Int) (w : CW) : Prop :=
  pC_X0_letters_5 p call Q x1 0 0 w
/-! LetterPost.nothing()I -/
def pC_X0_nothing_31 (p : Nat) (call : Nat → List ZA → CW → (ZRes → CW → Prop) → Prop) (Q : Int → CW → Prop) (s0 : Int) (w : CW) : Prop :=
  Q s0 w
def pC_X0_nothing_0 (p : Nat) (call : Nat → List ZA → CW → (ZRes → CW → Prop) → Prop) (Q : Int → CW → Prop) (w : CW) : Prop :=
  ((fI w 4 p) = 160 →
    pC_X0_nothing_31 p call Q (-3) w) ∧
  (¬ ((fI w 4 p) = 160) →
    (cz w + 1 ≤ mz w ∧ cu w + 2 ≤ mu w) ∧
    ∀ u2 : CW, u2 = nO w 29 2 →
    call 196 [ar (cz w + 1), ai (fI u2 4 p), ai 1] u2 (zqV (fun u4 =>
      call 58 [ar p, ar (cz w + 1)] u4 (zqI (fun v7 u6 =>
        pC_X0_nothing_31 p call Q v7 u6) zno)) zno))
/-! LetterPost.make(IIIII)I -/
def pC_X0_make_28 (p : Nat) (call : Nat → List ZA → CW → (ZRes → CW → Prop) → Prop) (Q : Int → CW → Prop) (w : CW) : Prop :=
  Q (-1) w
def pC_X0_make_203 (p : Nat) (call : Nat → List ZA → CW → (ZRes → CW → Prop) → Prop) (Q : Int → CW → Prop) (s0 : Int) (w : CW) : Prop :=
  Q s0 w
def pC_X0_make_177 (p : Nat) (call : Nat → List ZA → CW → (ZRes → CW → Prop) → Prop) (Q : Int → CW → Prop) (w : CW) : Prop :=
  pC_X0_make_203 p call Q (-3) w
def pC_X0_make_160 (p : Nat) (call : Nat → List ZA → CW → (ZRes → CW → Prop) → Prop) (Q : Int → CW → Prop) (x6 : Nat) (x8 : Nat) (x9 : Int) (w : CW) : Prop :=
  (((fI w 4 p) = 160) ∨ (¬ (x9 ≤ 60)) →
    pC_X0_make_177 p call Q w) ∧
  (¬ (((fI w 4 p) = 160) ∨ (¬ (x9 ≤ 60))) →
    (cz w + 1 ≤ mz w ∧ cu w + 4 ≤ mu w) ∧
    ∀ u21 : CW, u21 = nO w 30 4 →
    call 201 [ar (cz w + 1), ai (fI u21 4 p), ai x9, ar x6, ar x8] u21 (zqV (fun u23 =>
      call 58 [ar p, ar (cz w + 1)] u23 (zqI (fun v26 u25 =>
        pC_X0_make_203 p call Q v26 u25) zno)) zno))
def pC_X0_make_124 (p : Nat) (call : Nat → List ZA → CW → (ZRes → CW → Prop) → Prop) (Q : Int → CW → Prop) (w : CW) : Prop :=
  Q (-1) w
def pC_X0_make_77 (p : Nat) (call : Nat → List ZA → CW → (ZRes → CW → Prop) → Prop) (Q : Int → CW → Prop) (x6 : Nat) (x7 : Nat) (x8 : Nat) (x9 : Int) (x10 : Int) (w : CW) : Prop :=
  ∀ I77 : Int → Int → CW → Prop, (∀ (x9 : Int) (x10 : Int) (w : CW), (
    (hF 42 (tg w x6) = true) ∧
    ((fI w 42 x6) ≤ x10 →
      pC_X0_make_160 p call Q x6 x8 x9 w) ∧
    (¬ ((fI w 42 x6) ≤ x10) →
      (tg w x7 = 102 ∧ 0 ≤ x10 ∧ x10 < ln w x7) ∧
      call 63 [ar p, ai (aN w x7 x10)] w (zqI (fun v34 u33 =>
        (v34 = 0 →
          pC_X0_make_124 p call Q u33) ∧
        (¬ (v34 = 0) →
          (tg u33 x7 = 102 ∧ 0 ≤ x10 ∧ x10 < ln u33 x7) ∧
          ((111 ≤ tg u33 (fR u33 3 p) ∧ tg u33 (fR u33 3 p) ≤ 119) ∧ 0 ≤ (aN u33 x7 x10) ∧ (aN u33 x7 x10) < ln u33 (fR u33 3 p)) ∧
          (hF 41 (tg u33 x6) = true) ∧
          (tg u33 (fR u33 41 x6) = 102 ∧ 0 ≤ x10 ∧ x10 < ln u33 (fR u33 41 x6)) ∧
          call 64 [ar p, ar (aR u33 (fR u33 3 p) (aN u33 x7 x10)), ai (aN u33 (fR u33 41 x6) x10)] u33 (zqI (fun v41 u40 =>
            (v41 = 0 →
              pC_X0_make_124 p call Q u40) ∧
            (¬ (v41 = 0) →
              (tg u40 x7 = 102 ∧ 0 ≤ x10 ∧ x10 < ln u40 x7) ∧
              ((111 ≤ tg u40 (fR u40 3 p) ∧ tg u40 (fR u40 3 p) ≤ 119) ∧ 0 ≤ (aN u40 x7 x10) ∧ (aN u40 x7 x10) < ln u40 (fR u40 3 p)) ∧
              ((111 ≤ tg u40 x8 ∧ tg u40 x8 ≤ 119) ∧ 0 ≤ x10 ∧ x10 < ln u40 x8) ∧
              ((aR u40 (fR u40 3 p) (aN u40 x7 x10)) = 0 ∨ zst (tg u40 x8) (tg u40 (aR u40 (fR u40 3 p) (aN u40 x7 x10))) = true) ∧
              ∀ u45 : CW, u45 = qR u40 x8 x10 (aR u40 (fR u40 3 p) (aN u40 x7 x10)) →
              ((111 ≤ tg u45 x8 ∧ tg u45 x8 ≤ 119) ∧ 0 ≤ x10 ∧ x10 < ln u45 x8) ∧
              (hF 114 (tg u45 (aR u45 x8 x10)) = true) ∧
              ∀ x9_50 : Int, x9_50 = w32 (x9 + (fI u45 114 (aR u45 x8 x10))) →
              ∀ x10_51 : Int, x10_51 = w32 (x10 + 1) →
              I77 x9_50 x10_51 u45)) zno))) zno))) → I77 x9 x10 w) → I77 x9 x10 w
def pC_X0_make_0 (p : Nat) (call : Nat → List ZA → CW → (ZRes → CW → Prop) → Prop) (Q : Int → CW → Prop) (x1 : Int) (x2 : Int) (x3 : Int) (x4 : Int) (x5 : Int) (w : CW) : Prop :=
  call 1 [al x1, al 0, al (w32 ((fI w 1 p) - 1))] w (zqI (fun v2 u1 =>
    ((¬ (v2 = 0) → ((111 ≤ tg u1 (fR u1 0 p) ∧ tg u1 (fR u1 0 p) ≤ 119) ∧ 0 ≤ x1 ∧ x1 < ln u1 (fR u1 0 p)) ∧ (hF 40 (tg u1 (aR u1 (fR u1 0 p) x1)) = true))) ∧
    ((v2 = 0) ∨ (¬ ((fI u1 40 (aR u1 (fR u1 0 p) x1)) = 0)) →
      pC_X0_make_28 p call Q u1) ∧
    (¬ ((v2 = 0) ∨ (¬ ((fI u1 40 (aR u1 (fR u1 0 p) x1)) = 0))) →
      ((111 ≤ tg u1 (fR u1 0 p) ∧ tg u1 (fR u1 0 p) ≤ 119) ∧ 0 ≤ x1 ∧ x1 < ln u1 (fR u1 0 p)) ∧
      ∀ x6_5 : Nat, x6_5 = aR u1 (fR u1 0 p) x1 →
      ((0 ≤ (4 : Int) ∧ (4 : Int) ≤ 1000000) ∧ cz u1 + 1 ≤ mz u1 ∧ cu u1 + Int.toNat 4 ≤ mu u1) ∧
      ∀ u6 : CW, u6 = nA u1 102 (Int.toNat 4) →
      (tg u6 (cz u1 + 1) = 102 ∧ 0 ≤ (0 : Int) ∧ (0 : Int) < ln u6 (cz u1 + 1)) ∧
      ∀ u8 : CW, u8 = qI u6 (cz u1 + 1) 0 x2 →
      (tg u8 (cz u1 + 1) = 102 ∧ 0 ≤ (1 : Int) ∧ (1 : Int) < ln u8 (cz u1 + 1)) ∧
      ∀ u10 : CW, u10 = qI u8 (cz u1 + 1) 1 x3 →
      (tg u10 (cz u1 + 1) = 102 ∧ 0 ≤ (2 : Int) ∧ (2 : Int) < ln u10 (cz u1 + 1)) ∧
      ∀ u12 : CW, u12 = qI u10 (cz u1 + 1) 2 x4 →
      (tg u12 (cz u1 + 1) = 102 ∧ 0 ≤ (3 : Int) ∧ (3 : Int) < ln u12 (cz u1 + 1)) ∧
      ∀ u14 : CW, u14 = qI u12 (cz u1 + 1) 3 x5 →
      (hF 42 (tg u14 x6_5) = true) ∧
      ((0 ≤ (fI u14 42 x6_5) ∧ (fI u14 42 x6_5) ≤ 1000000) ∧ cz u14 + 1 ≤ mz u14 ∧ cu u14 + Int.toNat (fI u14 42 x6_5) ≤ mu u14) ∧
      ∀ u17 : CW, u17 = nA u14 119 (Int.toNat (fI u14 42 x6_5)) →
      pC_X0_make_77 p call Q x6_5 (cz u1 + 1) (cz u14 + 1) 1 0 u17)) zno)
/-! LetterPost.isValue(I)Z -/
def pC_X0_isValue_0 (p : Nat) (call : Nat → List ZA → CW → (ZRes → CW → Prop) → Prop) (Q : Int → CW → Prop) (x1 : Int) (w : CW) : Prop :=
  call 1 [al x1, al 0, al (w32 ((fI w 4 p) - 1))] w (zqI (fun v2 u1 =>
    (v2 = 0 ∨ v2 = 1) ∧
    Q v2 u1) zno)
/-! LetterPost.isOf(LLetterPost$Value;I)Z -/
def pC_X0_isOf_53 (p : Nat) (call : Nat → List ZA → CW → (ZRes → CW → Prop) → Prop) (Q : Int → CW → Prop) (s0 : Int) (w : CW) : Prop :=
  (s0 = 0 ∨ s0 = 1) ∧
  Q s0 w
def pC_X0_isOf_52 (p : Nat) (call : Nat → List ZA → CW → (ZRes → CW → Prop) → Prop) (Q : Int → CW → Prop) (w : CW) : Prop :=
  pC_X0_isOf_53 p call Q 0 w
def pC_X0_isOf_48 (p : Nat) (call : Nat → List ZA → CW → (ZRes → CW → Prop) → Prop) (Q : Int → CW → Prop) (w : CW) : Prop :=
  pC_X0_isOf_53 p call Q 1 w
def pC_X0_isOf_0 (p : Nat) (call : Nat → List ZA → CW → (ZRes → CW → Prop) → Prop) (Q : Int → CW → Prop) (x1 : Nat) (x2 : Int) (w : CW) : Prop :=
  (3 ≤ x2 →
    (x1 = 0 ∨ zca (tg w x1) "LetterPost$Nothing" = true ∨ znc (tg w x1) "LetterPost$Nothing" = true) ∧
    (zca (tg w x1) "LetterPost$Nothing" = true →
      call (vm4 (tg w x1)) [ar x1] w (zqR (fun v5 u4 =>
        (v5 = 0 →
          pC_X0_isOf_48 p call Q u4) ∧
        (¬ (v5 = 0) →
          call (vm4 (tg u4 x1)) [ar x1] u4 (zqR (fun v8 u7 =>
            call 31 [ar p, ai x2] u7 (zqR (fun v10 u9 =>
              (tg u9 v8 = 3) ∧
              call 83 [ar v8, ar v10] u9 (zqI (fun v12 u11 =>
                (v12 = 0 →
                  pC_X0_isOf_52 p call Q u11) ∧
                (¬ (v12 = 0) →
                  pC_X0_isOf_48 p call Q u11)) zno)) zno)) zno))) zno)) ∧
    (¬ (zca (tg w x1) "LetterPost$Nothing" = true) →
      pC_X0_isOf_52 p call Q w)) ∧
  (¬ (3 ≤ x2) →
    call (vm5 (tg w x1)) [ar x1] w (zqI (fun v28 u27 =>
      ∀ v29 : Int, v29 = (if v28 = x2 then 1 else 0) →
      Q v29 u27) zno))
/-! LetterPost.value(II)I -/
def pC_X0_value_20 (p : Nat) (call : Nat → List ZA → CW → (ZRes → CW → Prop) → Prop) (Q : Int → CW → Prop) (w : CW) : Prop :=
  Q (-4) w
def pC_X0_value_62 (p : Nat) (call : Nat → List ZA → CW → (ZRes → CW → Prop) → Prop) (Q : Int → CW → Prop) (s0 : Int) (w : CW) : Prop :=
  Q s0 w
def pC_X0_value_0 (p : Nat) (call : Nat → List ZA → CW → (ZRes → CW → Prop) → Prop) (Q : Int → CW → Prop) (x1 : Int) (x2 : Int) (w : CW) : Prop :=
  call 63 [ar p, ai x1] w (zqI (fun v2 u1 =>
    (v2 = 0 →
      pC_X0_value_20 p call Q u1) ∧
    (¬ (v2 = 0) →
      call 1 [al x2, al 0, al 6] u1 (zqI (fun v5 u4 =>
        (v5 = 0 →
          pC_X0_value_20 p call Q u4) ∧
        (¬ (v5 = 0) →
          ((111 ≤ tg u4 (fR u4 3 p) ∧ tg u4 (fR u4 3 p) ≤ 119) ∧ 0 ≤ x1 ∧ x1 < ln u4 (fR u4 3 p)) ∧
          ∀ x3_8 : Nat, x3_8 = aR u4 (fR u4 3 p) x1 →
          (3 ≤ x2 →
            (x3_8 = 0 ∨ zca (tg u4 x3_8) "LetterPost$Letter" = true ∨ znc (tg u4 x3_8) "LetterPost$Letter" = true) ∧
            ((zca (tg u4 x3_8) "LetterPost$Letter" = true → (x3_8 = 0 ∨ zca (tg u4 x3_8) "LetterPost$Letter" = true) ∧ (hF 118 (tg u4 x3_8) = true) ∧ (101 ≤ tg u4 (fR u4 118 x3_8) ∧ tg u4 (fR u4 118 x3_8) ≤ 119 ∧ (tg u4 (fR u4 118 x3_8) < 107 ∨ 111 ≤ tg u4 (fR u4 118 x3_8))) ∧ (¬ (((ln u4 (fR u4 118 x3_8) : Nat) : Int) ≤ (w32 (x2 - 3))) → (x3_8 = 0 ∨ zca (tg u4 x3_8) "LetterPost$Letter" = true) ∧ (hF 118 (tg u4 x3_8) = true) ∧ ((111 ≤ tg u4 (fR u4 118 x3_8) ∧ tg u4 (fR u4 118 x3_8) ≤ 119) ∧ 0 ≤ (w32 (x2 - 3)) ∧ (w32 (x2 - 3)) < ln u4 (fR u4 118 x3_8)) ∧ (hF 113 (tg u4 (aR u4 (fR u4 118 x3_8) (w32 (x2 - 3)))) = true)))) ∧
            ∀ v11 : Int, v11 = (if (zca (tg u4 x3_8) "LetterPost$Letter" = true) ∧ (¬ (((ln u4 (fR u4 118 x3_8) : Nat) : Int) ≤ (w32 (x2 - 3)))) then fI u4 113 (aR u4 (fR u4 118 x3_8) (w32 (x2 - 3))) else (-4)) →
            Q v11 u4) ∧
          (¬ (3 ≤ x2) →
            (x2 = 0 →
              call (vm5 (tg u4 x3_8)) [ar x3_8] u4 (zqI (fun v28 u27 =>
                pC_X0_value_62 p call Q v28 u27) zno)) ∧
            (¬ (x2 = 0) →
              (x2 = 1 →
                call (vm6 (tg u4 x3_8)) [ar x3_8] u4 (zqI (fun v20 u19 =>
                  pC_X0_value_62 p call Q v20 u19) zno)) ∧
              (¬ (x2 = 1) →
                (hF 114 (tg u4 x3_8) = true) ∧
                pC_X0_value_62 p call Q (fI u4 114 x3_8) u4))))) zno))) zno)
/-! LetterPost.alike(II)I -/
def pC_X0_alike_43 (p : Nat) (call : Nat → List ZA → CW → (ZRes → CW → Prop) → Prop) (Q : Int → CW → Prop) (s0 : Int) (w : CW) : Prop :=
  Q s0 w
def pC_X0_alike_16 (p : Nat) (call : Nat → List ZA → CW → (ZRes → CW → Prop) → Prop) (Q : Int → CW → Prop) (w : CW) : Prop :=
  pC_X0_alike_43 p call Q (-1) w
def pC_X0_alike_0 (p : Nat) (call : Nat → List ZA → CW → (ZRes → CW → Prop) → Prop) (Q : Int → CW → Prop) (x1 : Int) (x2 : Int) (w : CW) : Prop :=
  call 63 [ar p, ai x1] w (zqI (fun v2 u1 =>
    (v2 = 0 →
      pC_X0_alike_16 p call Q u1) ∧
    (¬ (v2 = 0) →
      call 63 [ar p, ai x2] u1 (zqI (fun v5 u4 =>
        (v5 = 0 →
          pC_X0_alike_16 p call Q u4) ∧
        (¬ (v5 = 0) →
          ((111 ≤ tg u4 (fR u4 3 p) ∧ tg u4 (fR u4 3 p) ≤ 119) ∧ 0 ≤ x1 ∧ x1 < ln u4 (fR u4 3 p)) ∧
          ((111 ≤ tg u4 (fR u4 3 p) ∧ tg u4 (fR u4 3 p) ≤ 119) ∧ 0 ≤ x2 ∧ x2 < ln u4 (fR u4 3 p)) ∧
          call (vm7 (tg u4 (aR u4 (fR u4 3 p) x1))) [ar (aR u4 (fR u4 3 p) x1), ar (aR u4 (fR u4 3 p) x2)] u4 (zqI (fun v10 u9 =>
            (v10 = 0 →
              pC_X0_alike_43 p call Q 0 u9) ∧
            (¬ (v10 = 0) →
              pC_X0_alike_43 p call Q 1 u9)) zno))) zno))) zno)
/-! LetterPost.sort(IIII)I -/
def pC_X0_sort_0 (p : Nat) (call : Nat → List ZA → CW → (ZRes → CW → Prop) → Prop) (Q : Int → CW → Prop) (x1 : Int) (x2 : Int) (x3 : Int) (x4 : Int) (w : CW) : Prop :=
  call 68 [ar p, ai x1, ai x2, ai x3, ai x4, ai 1] w (zqI (fun v2 u1 =>
    Q v2 u1) zno)
/-! LetterPost.sorts(IIIIZ)I -/
def pC_X0_sorts_115 (p : Nat) (call : Nat → List ZA → CW → (ZRes → CW → Prop) → Prop) (Q : Int → CW → Prop) (x1 : Int) (x5 : Int) (x7 : Nat) (w : CW) : Prop :=
  ((111 ≤ tg w (fR w 5 p) ∧ tg w (fR w 5 p) ≤ 119) ∧ 0 ≤ x1 ∧ x1 < ln w (fR w 5 p)) ∧
  call 69 [ar p, ar (aR w (fR w 5 p) x1), ar x7, ai x5] w (zqI (fun v19 u18 =>
    Q v19 u18) zno)
def pC_X0_sorts_92 (p : Nat) (call : Nat → List ZA → CW → (ZRes → CW → Prop) → Prop) (Q : Int → CW → Prop) (w : CW) : Prop :=
  Q (-1) w
def pC_X0_sorts_37 (p : Nat) (call : Nat → List ZA → CW → (ZRes → CW → Prop) → Prop) (Q : Int → CW → Prop) (x1 : Int) (x5 : Int) (x6 : Nat) (x7 : Nat) (x8 : Int) (w : CW) : Prop :=
  ∀ I37 : Int → CW → Prop, (∀ (x8 : Int) (w : CW), (
    ((111 ≤ tg w (fR w 5 p) ∧ tg w (fR w 5 p) ≤ 119) ∧ 0 ≤ x1 ∧ x1 < ln w (fR w 5 p)) ∧
    (hF 46 (tg w (aR w (fR w 5 p) x1)) = true) ∧
    ((fI w 46 (aR w (fR w 5 p) x1)) ≤ x8 →
      pC_X0_sorts_115 p call Q x1 x5 x7 w) ∧
    (¬ ((fI w 46 (aR w (fR w 5 p) x1)) ≤ x8) →
      (tg w x6 = 102 ∧ 0 ≤ x8 ∧ x8 < ln w x6) ∧
      call 63 [ar p, ai (aN w x6 x8)] w (zqI (fun v22 u21 =>
        (v22 = 0 →
          pC_X0_sorts_92 p call Q u21) ∧
        (¬ (v22 = 0) →
          (tg u21 x6 = 102 ∧ 0 ≤ x8 ∧ x8 < ln u21 x6) ∧
          ((111 ≤ tg u21 (fR u21 3 p) ∧ tg u21 (fR u21 3 p) ≤ 119) ∧ 0 ≤ (aN u21 x6 x8) ∧ (aN u21 x6 x8) < ln u21 (fR u21 3 p)) ∧
          ((111 ≤ tg u21 (fR u21 5 p) ∧ tg u21 (fR u21 5 p) ≤ 119) ∧ 0 ≤ x1 ∧ x1 < ln u21 (fR u21 5 p)) ∧
          (hF 45 (tg u21 (aR u21 (fR u21 5 p) x1)) = true) ∧
          (tg u21 (fR u21 45 (aR u21 (fR u21 5 p) x1)) = 102 ∧ 0 ≤ x8 ∧ x8 < ln u21 (fR u21 45 (aR u21 (fR u21 5 p) x1))) ∧
          call 64 [ar p, ar (aR u21 (fR u21 3 p) (aN u21 x6 x8)), ai (aN u21 (fR u21 45 (aR u21 (fR u21 5 p) x1)) x8)] u21 (zqI (fun v30 u29 =>
            (v30 = 0 →
              pC_X0_sorts_92 p call Q u29) ∧
            (¬ (v30 = 0) →
              (tg u29 x6 = 102 ∧ 0 ≤ x8 ∧ x8 < ln u29 x6) ∧
              ((111 ≤ tg u29 (fR u29 3 p) ∧ tg u29 (fR u29 3 p) ≤ 119) ∧ 0 ≤ (aN u29 x6 x8) ∧ (aN u29 x6 x8) < ln u29 (fR u29 3 p)) ∧
              ((111 ≤ tg u29 x7 ∧ tg u29 x7 ≤ 119) ∧ 0 ≤ x8 ∧ x8 < ln u29 x7) ∧
              ((aR u29 (fR u29 3 p) (aN u29 x6 x8)) = 0 ∨ zst (tg u29 x7) (tg u29 (aR u29 (fR u29 3 p) (aN u29 x6 x8))) = true) ∧
              ∀ u34 : CW, u34 = qR u29 x7 x8 (aR u29 (fR u29 3 p) (aN u29 x6 x8)) →
              ∀ x8_37 : Int, x8_37 = w32 (x8 + 1) →
              I37 x8_37 u34)) zno))) zno))) → I37 x8 w) → I37 x8 w
def pC_X0_sorts_0 (p : Nat) (call : Nat → List ZA → CW → (ZRes → CW → Prop) → Prop) (Q : Int → CW → Prop) (x1 : Int) (x2 : Int) (x3 : Int) (x4 : Int) (x5 : Int) (w : CW) : Prop :=
  call 48 [ar p, ai x1] w (zqI (fun v2 u1 =>
    (v2 = 0 →
      Q (-1) u1) ∧
    (¬ (v2 = 0) →
      ((0 ≤ (3 : Int) ∧ (3 : Int) ≤ 1000000) ∧ cz u1 + 1 ≤ mz u1 ∧ cu u1 + Int.toNat 3 ≤ mu u1) ∧
      ∀ u4 : CW, u4 = nA u1 102 (Int.toNat 3) →
      (tg u4 (cz u1 + 1) = 102 ∧ 0 ≤ (0 : Int) ∧ (0 : Int) < ln u4 (cz u1 + 1)) ∧
      ∀ u6 : CW, u6 = qI u4 (cz u1 + 1) 0 x2 →
      (tg u6 (cz u1 + 1) = 102 ∧ 0 ≤ (1 : Int) ∧ (1 : Int) < ln u6 (cz u1 + 1)) ∧
      ∀ u8 : CW, u8 = qI u6 (cz u1 + 1) 1 x3 →
      (tg u8 (cz u1 + 1) = 102 ∧ 0 ≤ (2 : Int) ∧ (2 : Int) < ln u8 (cz u1 + 1)) ∧
      ∀ u10 : CW, u10 = qI u8 (cz u1 + 1) 2 x4 →
      ((0 ≤ (3 : Int) ∧ (3 : Int) ≤ 1000000) ∧ cz u10 + 1 ≤ mz u10 ∧ cu u10 + Int.toNat 3 ≤ mu u10) ∧
      ∀ u12 : CW, u12 = nA u10 119 (Int.toNat 3) →
      pC_X0_sorts_37 p call Q x1 x5 (cz u1 + 1) (cz u10 + 1) 0 u12)) zno)
/-! LetterPost.run(LLetterPost$Function;[LLetterPost$Value;Z)I -/
def pC_X0_run_263 (p : Nat) (call : Nat → List ZA → CW → (ZRes → CW → Prop) → Prop) (Q : Int → CW → Prop) (I37 : Nat → Nat → CW → Prop) (x3 : Int) (x5 : Nat) (x7 : Nat) (w : CW) : Prop :=
  (hF 66 (tg w x7) = true) ∧
  ∀ x4_30 : Nat, x4_30 = fR w 66 x7 →
  I37 x4_30 x5 w
def pC_X0_run_230 (p : Nat) (call : Nat → List ZA → CW → (ZRes → CW → Prop) → Prop) (Q : Int → CW → Prop) (I37 : Nat → Nat → CW → Prop) (x3 : Int) (x5 : Nat) (x6 : Nat) (x7 : Nat) (x8 : Int) (w : CW) : Prop :=
  ∀ I230 : Int → CW → Prop, (∀ (x8 : Int) (w : CW), (
    (hF 62 (tg w x7) = true) ∧
    (101 ≤ tg w (fR w 62 x7) ∧ tg w (fR w 62 x7) ≤ 119 ∧ (tg w (fR w 62 x7) < 107 ∨ 111 ≤ tg w (fR w 62 x7))) ∧
    (((ln w (fR w 62 x7) : Nat) : Int) ≤ x8 →
      pC_X0_run_263 p call Q I37 x3 x5 x7 w) ∧
    (¬ (((ln w (fR w 62 x7) : Nat) : Int) ≤ x8) →
      (hF 62 (tg w x7) = true) ∧
      (tg w (fR w 62 x7) = 102 ∧ 0 ≤ x8 ∧ x8 < ln w (fR w 62 x7)) ∧
      ((111 ≤ tg w x6 ∧ tg w x6 ≤ 119) ∧ 0 ≤ (aN w (fR w 62 x7) x8) ∧ (aN w (fR w 62 x7) x8) < ln w x6) ∧
      ((111 ≤ tg w x5 ∧ tg w x5 ≤ 119) ∧ 0 ≤ x8 ∧ x8 < ln w x5) ∧
      ((aR w x6 (aN w (fR w 62 x7) x8)) = 0 ∨ zst (tg w x5) (tg w (aR w x6 (aN w (fR w 62 x7) x8))) = true) ∧
      ∀ u34 : CW, u34 = qR w x5 x8 (aR w x6 (aN w (fR w 62 x7) x8)) →
      ∀ x8_37 : Int, x8_37 = w32 (x8 + 1) →
      I230 x8_37 u34)) → I230 x8 w) → I230 x8 w
def pC_X0_run_273 (p : Nat) (call : Nat → List ZA → CW → (ZRes → CW → Prop) → Prop) (Q : Int → CW → Prop) (w : CW) : Prop :=
  ((¬ ((fR w 25 p) = 0) → (hF 56 (tg w (fR w 25 p)) = true))) ∧
  ∀ v40 : Int, v40 = (if (fR w 25 p) = 0 then (-4) else fI w 56 (fR w 25 p)) →
  Q v40 w
def pC_X0_run_208 (p : Nat) (call : Nat → List ZA → CW → (ZRes → CW → Prop) → Prop) (Q : Int → CW → Prop) (x4 : Nat) (w : CW) : Prop :=
  call 73 [ar p, ai 4, ai 0, ar x4, ai (-4)] w (zqV (fun u38 =>
    pC_X0_run_273 p call Q u38) zno)
def pC_X0_run_152 (p : Nat) (call : Nat → List ZA → CW → (ZRes → CW → Prop) → Prop) (Q : Int → CW → Prop) (x4 : Nat) (x6 : Nat) (x7 : Nat) (w : CW) : Prop :=
  (hF 61 (tg w x7) = true) ∧
  (((fI w 61 x7) < 0 → (hF 60 (tg w x7) = true)) ∧ (¬ ((fI w 61 x7) < 0) → (hF 61 (tg w x7) = true) ∧ ((111 ≤ tg w x6 ∧ tg w x6 ≤ 119) ∧ 0 ≤ (fI w 61 x7) ∧ (fI w 61 x7) < ln w x6) ∧ ((aR w x6 (fI w 61 x7)) = 0 ∨ zca (tg w (aR w x6 (fI w 61 x7))) "LetterPost$Whole" = true) ∧ (hF 115 (tg w (aR w x6 (fI w 61 x7))) = true))) ∧
  ∀ v45 : Int, v45 = (if ¬ ((fI w 61 x7) < 0) then fI w 115 (aR w x6 (fI w 61 x7)) else fI w 60 x7) →
  (hF 56 (tg w x7) = true) ∧
  call 73 [ar p, ai 0, ai v45, ar x4, ai (fI w 56 x7)] w (zqV (fun u48 =>
    pC_X0_run_273 p call Q u48) zno)
def pC_X0_run_144 (p : Nat) (call : Nat → List ZA → CW → (ZRes → CW → Prop) → Prop) (Q : Int → CW → Prop) (I37 : Nat → Nat → CW → Prop) (x3 : Int) (x4 : Nat) (x6 : Nat) (x7 : Nat) (w : CW) : Prop :=
  (hF 62 (tg w x7) = true) ∧
  ((fR w 62 x7) = 0 →
    pC_X0_run_152 p call Q x4 x6 x7 w) ∧
  (¬ ((fR w 62 x7) = 0) →
    (tg w (fR w 23 p) = 102 ∧ 0 ≤ (2 : Int) ∧ (2 : Int) < ln w (fR w 23 p)) ∧
    ((aN w (fR w 23 p) 2) = 100 →
      pC_X0_run_208 p call Q x4 w) ∧
    (¬ ((aN w (fR w 23 p) 2) = 100) →
      ((0 ≤ (3 : Int) ∧ (3 : Int) ≤ 1000000) ∧ cz w + 1 ≤ mz w ∧ cu w + Int.toNat 3 ≤ mu w) ∧
      ∀ u24 : CW, u24 = nA w 119 (Int.toNat 3) →
      pC_X0_run_230 p call Q I37 x3 (cz w + 1) x6 x7 0 u24))
def pC_X0_run_88 (p : Nat) (call : Nat → List ZA → CW → (ZRes → CW → Prop) → Prop) (Q : Int → CW → Prop) (x4 : Nat) (w : CW) : Prop :=
  (((fI w 27 p) = 3 → (hF 56 (tg w (fR w 28 p)) = true))) ∧
  ∀ v54 : Int, v54 = (if (fI w 27 p) = 3 then fI w 56 (fR w 28 p) else (-4)) →
  call 73 [ar p, ai (fI w 27 p), ai 0, ar x4, ai v54] w (zqV (fun u56 =>
    pC_X0_run_273 p call Q u56) zno)
def pC_X0_run_81 (p : Nat) (call : Nat → List ZA → CW → (ZRes → CW → Prop) → Prop) (Q : Int → CW → Prop) (I37 : Nat → Nat → CW → Prop) (x3 : Int) (x4 : Nat) (x6 : Nat) (s0 : Nat) (w : CW) : Prop :=
  (s0 = 0 →
    pC_X0_run_88 p call Q x4 w) ∧
  (¬ (s0 = 0) →
    (tg w (fR w 23 p) = 102 ∧ 0 ≤ (2 : Int) ∧ (2 : Int) < ln w (fR w 23 p)) ∧
    ((aN w (fR w 23 p) 2) = 1 →
      ∀ u52 : CW, u52 = pR w 25 p s0 →
      ∀ u53 : CW, u53 = pR u52 26 p x6 →
      pC_X0_run_144 p call Q I37 x3 x4 x6 s0 u53) ∧
    (¬ ((aN w (fR w 23 p) 2) = 1) →
      pC_X0_run_144 p call Q I37 x3 x4 x6 s0 w))
def pC_X0_run_37 (p : Nat) (call : Nat → List ZA → CW → (ZRes → CW → Prop) → Prop) (Q : Int → CW → Prop) (x3 : Int) (x4 : Nat) (x5 : Nat) (w : CW) : Prop :=
  ∀ I37 : Nat → Nat → CW → Prop, (∀ (x4 : Nat) (x5 : Nat) (w : CW), (
    (tg w (fR w 23 p) = 102 ∧ 0 ≤ (2 : Int) ∧ (2 : Int) < ln w (fR w 23 p)) ∧
    (tg w (fR w 23 p) = 102 ∧ 0 ≤ (2 : Int) ∧ (2 : Int) < ln w (fR w 23 p)) ∧
    ∀ u10 : CW, u10 = qI w (fR w 23 p) 2 (w32 ((aN w (fR w 23 p) 2) + 1)) →
    ((0 ≤ (8 : Int) ∧ (8 : Int) ≤ 1000000) ∧ cz u10 + 1 ≤ mz u10 ∧ cu u10 + Int.toNat 8 ≤ mu u10) ∧
    ∀ u12 : CW, u12 = nA u10 119 (Int.toNat 8) →
    (x3 = 0 →
      call 72 [ar p, ar x4, ar x5, ar (cz u10 + 1)] u12 (zqR (fun v16 u15 =>
        pC_X0_run_81 p call Q I37 x3 x4 (cz u10 + 1) v16 u15) zno)) ∧
    (¬ (x3 = 0) →
      call 70 [ar p, ar x4, ar x5, ar (cz u10 + 1)] u12 (zqR (fun v61 u60 =>
        pC_X0_run_81 p call Q I37 x3 x4 (cz u10 + 1) v61 u60) zno))) → I37 x4 x5 w) → I37 x4 x5 w
def pC_X0_run_0 (p : Nat) (call : Nat → List ZA → CW → (ZRes → CW → Prop) → Prop) (Q : Int → CW → Prop) (x1 : Nat) (x2 : Nat) (x3 : Int) (w : CW) : Prop :=
  (tg w (fR w 23 p) = 102 ∧ 0 ≤ (2 : Int) ∧ (2 : Int) < ln w (fR w 23 p)) ∧
  ∀ u1 : CW, u1 = qI w (fR w 23 p) 2 0 →
  (tg u1 (fR u1 23 p) = 102 ∧ 0 ≤ (3 : Int) ∧ (3 : Int) < ln u1 (fR u1 23 p)) ∧
  ∀ u3 : CW, u3 = qI u1 (fR u1 23 p) 3 0 →
  (tg u3 (fR u3 23 p) = 102 ∧ 0 ≤ (4 : Int) ∧ (4 : Int) < ln u3 (fR u3 23 p)) ∧
  ∀ u5 : CW, u5 = qI u3 (fR u3 23 p) 4 0 →
  ∀ u7 : CW, u7 = pR u5 25 p 0 →
  ∀ u8 : CW, u8 = pI u7 27 p 0 →
  pC_X0_run_37 p call Q x3 x1 x2 u8
/-! LetterPost.byTree(LLetterPost$Function;[LLetterPost$Value;[LLetterPost$Value;)LLetterPost$Rule; -/
def pC_X0_byTree_134 (p : Nat) (call : Nat → List ZA → CW → (ZRes → CW → Prop) → Prop) (Q : Nat → CW → Prop) (w : CW) : Prop :=
  Q 0 w
def pC_X0_byTree_60 (p : Nat) (call : Nat → List ZA → CW → (ZRes → CW → Prop) → Prop) (Q : Nat → CW → Prop) (x5 : Nat) (w : CW) : Prop :=
  (hF 108 (tg w x5) = true) ∧
  (hF 80 (tg w (fR w 108 x5)) = true) ∧
  Q (fR w 80 (fR w 108 x5)) w
def pC_X0_byTree_6 (p : Nat) (call : Nat → List ZA → CW → (ZRes → CW → Prop) → Prop) (Q : Nat → CW → Prop) (x1 : Nat) (x2 : Nat) (x3 : Nat) (x4 : Nat) (w : CW) : Prop :=
  ∀ I6 : Nat → CW → Prop, (∀ (x4 : Nat) (w : CW), (
    ((fI w 27 p) = 0 →
      (x4 = 0 ∨ zca (tg w x4) "LetterPost$Answering" = true ∨ znc (tg w x4) "LetterPost$Answering" = true) ∧
      (zca (tg w x4) "LetterPost$Answering" = true →
        (x4 = 0 ∨ zca (tg w x4) "LetterPost$Answering" = true) ∧
        (tg w x4 = 20 ∨ tg w x4 = 21) ∧
        call 165 [ar x4, ar x2, ar x3] w (zqV (fun u27 =>
          (x4 = 0 ∨ zca (tg u27 x4) "LetterPost$Guarded" = true ∨ znc (tg u27 x4) "LetterPost$Guarded" = true) ∧
          (zca (tg u27 x4) "LetterPost$Guarded" = true →
            (hF 108 (tg u27 x4) = true) ∧
            (hF 80 (tg u27 (fR u27 108 x4)) = true) ∧
            call 71 [ar p, ar x1, ar (fR u27 80 (fR u27 108 x4)), ar x3] u27 (zqI (fun v36 u35 =>
              (v36 = 0 →
                call (vm9 (tg u35 x4)) [ar x4, ar x2] u35 (zqR (fun v39 u38 =>
                  I6 v39 u38) zno)) ∧
              (¬ (v36 = 0) →
                pC_X0_byTree_60 p call Q x4 u35)) zno)) ∧
          (¬ (zca (tg u27 x4) "LetterPost$Guarded" = true) →
            pC_X0_byTree_60 p call Q x4 u27)) zno)) ∧
      (¬ (zca (tg w x4) "LetterPost$Answering" = true) →
        (x4 = 0 ∨ zca (tg w x4) "LetterPost$Testing" = true ∨ znc (tg w x4) "LetterPost$Testing" = true) ∧
        (zca (tg w x4) "LetterPost$Testing" = true →
          (tg w (fR w 23 p) = 102 ∧ 0 ≤ (3 : Int) ∧ (3 : Int) < ln w (fR w 23 p)) ∧
          (tg w (fR w 23 p) = 102 ∧ 0 ≤ (3 : Int) ∧ (3 : Int) < ln w (fR w 23 p)) ∧
          ∀ u10 : CW, u10 = qI w (fR w 23 p) 3 (w32 ((aN w (fR w 23 p) 3) + 1)) →
          call (vm8 (tg u10 x4)) [ar x4, ar x2] u10 (zqR (fun v13 u12 =>
            ∀ v14 : Int, v14 = (if v13 = 0 then 2 else fI u12 27 p) →
            ∀ u15 : CW, u15 = pI u12 27 p v14 →
            I6 v13 u15) zno)) ∧
        (¬ (zca (tg w x4) "LetterPost$Testing" = true) →
          ∀ u8 : CW, u8 = pI w 27 p 1 →
          I6 x4 u8))) ∧
    (¬ ((fI w 27 p) = 0) →
      pC_X0_byTree_134 p call Q w)) → I6 x4 w) → I6 x4 w
def pC_X0_byTree_0 (p : Nat) (call : Nat → List ZA → CW → (ZRes → CW → Prop) → Prop) (Q : Nat → CW → Prop) (x1 : Nat) (x2 : Nat) (x3 : Nat) (w : CW) : Prop :=
  (hF 52 (tg w x1) = true) ∧
  ∀ x4_2 : Nat, x4_2 = fR w 52 x1 →
  pC_X0_byTree_6 p call Q x1 x2 x3 x4_2 w
/-! LetterPost.asks(LLetterPost$Function;LLetterPost$Rule;[LLetterPost$Value;)Z -/
def pC_X0_asks_53 (p : Nat) (call : Nat → List ZA → CW → (ZRes → CW → Prop) → Prop) (Q : Int → CW → Prop) (x2 : Nat) (s0 : Nat) (w : CW) : Prop :=
  ∀ u11 : CW, u11 = pI w 27 p 3 →
  ∀ u12 : CW, u12 = pR u11 28 p x2 →
  Q 0 u12
def pC_X0_asks_34 (p : Nat) (call : Nat → List ZA → CW → (ZRes → CW → Prop) → Prop) (Q : Int → CW → Prop) (x2 : Nat) (x3 : Nat) (w : CW) : Prop :=
  (tg w (fR w 23 p) = 102 ∧ 0 ≤ (4 : Int) ∧ (4 : Int) < ln w (fR w 23 p)) ∧
  (tg w (fR w 23 p) = 102 ∧ 0 ≤ (4 : Int) ∧ (4 : Int) < ln w (fR w 23 p)) ∧
  ∀ u4 : CW, u4 = qI w (fR w 23 p) 4 (w32 ((aN w (fR w 23 p) 4) + 1)) →
  (hF 59 (tg u4 x2) = true) ∧
  (tg u4 (fR u4 59 x2) = 13) ∧
  call 121 [ar (fR u4 59 x2), ar x3] u4 (zqI (fun v8 u7 =>
    (v8 = 0 ∨ v8 = 1) ∧
    Q v8 u7) (fun x9 u10 =>
    tg u10 x9 = 35 ∧
    pC_X0_asks_53 p call Q x2 x9 u10))
def pC_X0_asks_0 (p : Nat) (call : Nat → List ZA → CW → (ZRes → CW → Prop) → Prop) (Q : Int → CW → Prop) (x1 : Nat) (x2 : Nat) (x3 : Nat) (w : CW) : Prop :=
  (tg w (fR w 23 p) = 102 ∧ 0 ≤ (4 : Int) ∧ (4 : Int) < ln w (fR w 23 p)) ∧
  (32 ≤ (aN w (fR w 23 p) 4) →
    pC_X0_asks_34 p call Q x2 x3 w) ∧
  (¬ (32 ≤ (aN w (fR w 23 p) 4)) →
    (tg w (fR w 23 p) = 102 ∧ 0 ≤ (4 : Int) ∧ (4 : Int) < ln w (fR w 23 p)) ∧
    (hF 43 (tg w x1) = true) ∧
    (hF 56 (tg w x2) = true) ∧
    (tg w (fR w 24 p) = 102 ∧ 0 ≤ (aN w (fR w 23 p) 4) ∧ (aN w (fR w 23 p) 4) < ln w (fR w 24 p)) ∧
    ∀ u17 : CW, u17 = qI w (fR w 24 p) (aN w (fR w 23 p) 4) (w32 ((w32 (100 * (fI w 43 x1))) + (fI w 56 x2))) →
    pC_X0_asks_34 p call Q x2 x3 u17)
/-! LetterPost.plainly(LLetterPost$Function;[LLetterPost$Value;[LLetterPost$Value;)LLetterPost$Rule; -/
def pC_X0_plainly_104 (p : Nat) (call : Nat → List ZA → CW → (ZRes → CW → Prop) → Prop) (Q : Nat → CW → Prop) (I3 : Int → CW → Prop) (x1 : Nat) (x2 : Nat) (x3 : Nat) (x4 : Int) (w : CW) : Prop :=
  ∀ x4_17 : Int, x4_17 = w32 (x4 + 1) →
  I3 x4_17 w
def pC_X0_plainly_101 (p : Nat) (call : Nat → List ZA → CW → (ZRes → CW → Prop) → Prop) (Q : Nat → CW → Prop) (x5 : Nat) (w : CW) : Prop :=
  Q x5 w
def pC_X0_plainly_77 (p : Nat) (call : Nat → List ZA → CW → (ZRes → CW → Prop) → Prop) (Q : Nat → CW → Prop) (I3 : Int → CW → Prop) (x1 : Nat) (x2 : Nat) (x3 : Nat) (x4 : Int) (x5 : Nat) (x6 : Int) (w : CW) : Prop :=
  (x6 = 0 →
    pC_X0_plainly_104 p call Q I3 x1 x2 x3 x4 w) ∧
  (¬ (x6 = 0) →
    (hF 59 (tg w x5) = true) ∧
    ((fR w 59 x5) = 0 →
      pC_X0_plainly_101 p call Q x5 w) ∧
    (¬ ((fR w 59 x5) = 0) →
      call 71 [ar p, ar x1, ar x5, ar x3] w (zqI (fun v21 u20 =>
        (v21 = 0 →
          pC_X0_plainly_104 p call Q I3 x1 x2 x3 x4 u20) ∧
        (¬ (v21 = 0) →
          pC_X0_plainly_101 p call Q x5 u20)) zno)))
def pC_X0_plainly_39 (p : Nat) (call : Nat → List ZA → CW → (ZRes → CW → Prop) → Prop) (Q : Nat → CW → Prop) (I3 : Int → CW → Prop) (x1 : Nat) (x2 : Nat) (x3 : Nat) (x4 : Int) (x5 : Nat) (x6 : Int) (x7 : Int) (w : CW) : Prop :=
  ∀ I39 : Int → Int → CW → Prop, (∀ (x6 : Int) (x7 : Int) (w : CW), (
    (hF 46 (tg w x1) = true) ∧
    (¬ ((fI w 46 x1) ≤ x7) ∧ (¬ (x6 = 0)) →
      (hF 58 (tg w x5) = true) ∧
      ((111 ≤ tg w (fR w 58 x5) ∧ tg w (fR w 58 x5) ≤ 119) ∧ 0 ≤ x7 ∧ x7 < ln w (fR w 58 x5)) ∧
      ((111 ≤ tg w x2 ∧ tg w x2 ≤ 119) ∧ 0 ≤ x7 ∧ x7 < ln w x2) ∧
      (tg w (aR w (fR w 58 x5) x7) = 6 ∨ tg w (aR w (fR w 58 x5) x7) = 7 ∨ tg w (aR w (fR w 58 x5) x7) = 8 ∨ tg w (aR w (fR w 58 x5) x7) = 9 ∨ tg w (aR w (fR w 58 x5) x7) = 10 ∨ tg w (aR w (fR w 58 x5) x7) = 11 ∨ tg w (aR w (fR w 58 x5) x7) = 12) ∧
      call 94 [ar (aR w (fR w 58 x5) x7), ar (aR w x2 x7), ar x3] w (zqI (fun v12 u11 =>
        ∀ x7_13 : Int, x7_13 = w32 (x7 + 1) →
        I39 v12 x7_13 u11) zno)) ∧
    (¬ (¬ ((fI w 46 x1) ≤ x7) ∧ (¬ (x6 = 0))) →
      pC_X0_plainly_77 p call Q I3 x1 x2 x3 x4 x5 x6 w)) → I39 x6 x7 w) → I39 x6 x7 w
def pC_X0_plainly_110 (p : Nat) (call : Nat → List ZA → CW → (ZRes → CW → Prop) → Prop) (Q : Nat → CW → Prop) (w : CW) : Prop :=
  ∀ v28 : Int, v28 = (if (fI w 27 p) = 0 then 1 else fI w 27 p) →
  ∀ u29 : CW, u29 = pI w 27 p v28 →
  Q 0 u29
def pC_X0_plainly_3 (p : Nat) (call : Nat → List ZA → CW → (ZRes → CW → Prop) → Prop) (Q : Nat → CW → Prop) (x1 : Nat) (x2 : Nat) (x3 : Nat) (x4 : Int) (w : CW) : Prop :=
  ∀ I3 : Int → CW → Prop, (∀ (x4 : Int) (w : CW), (
    (hF 48 (tg w x1) = true) ∧
    (¬ ((fI w 48 x1) ≤ x4) ∧ ((fI w 27 p) = 0) →
      (hF 47 (tg w x1) = true) ∧
      ((111 ≤ tg w (fR w 47 x1) ∧ tg w (fR w 47 x1) ≤ 119) ∧ 0 ≤ x4 ∧ x4 < ln w (fR w 47 x1)) ∧
      ∀ x5_4 : Nat, x5_4 = aR w (fR w 47 x1) x4 →
      call 237 [ar x3, ar 0] w (zqV (fun u5 =>
        pC_X0_plainly_39 p call Q I3 x1 x2 x3 x4 x5_4 1 0 u5) zno)) ∧
    (¬ (¬ ((fI w 48 x1) ≤ x4) ∧ ((fI w 27 p) = 0)) →
      pC_X0_plainly_110 p call Q w)) → I3 x4 w) → I3 x4 w
def pC_X0_plainly_0 (p : Nat) (call : Nat → List ZA → CW → (ZRes → CW → Prop) → Prop) (Q : Nat → CW → Prop) (x1 : Nat) (x2 : Nat) (x3 : Nat) (w : CW) : Prop :=
  pC_X0_plainly_3 p call Q x1 x2 x3 0 w
/-! LetterPost.ends(IILLetterPost$Function;I)V -/
def pC_X0_ends_0 (p : Nat) (call : Nat → List ZA → CW → (ZRes → CW → Prop) → Prop) (Q : CW → Prop) (x1 : Int) (x2 : Int) (x3 : Nat) (x4 : Int) (w : CW) : Prop :=
  (tg w (fR w 23 p) = 102 ∧ 0 ≤ (0 : Int) ∧ (0 : Int) < ln w (fR w 23 p)) ∧
  ∀ u1 : CW, u1 = qI w (fR w 23 p) 0 x1 →
  (tg u1 (fR u1 23 p) = 102 ∧ 0 ≤ (1 : Int) ∧ (1 : Int) < ln u1 (fR u1 23 p)) ∧
  ∀ u3 : CW, u3 = qI u1 (fR u1 23 p) 1 x2 →
  (hF 43 (tg u3 x3) = true) ∧
  (tg u3 (fR u3 23 p) = 102 ∧ 0 ≤ (5 : Int) ∧ (5 : Int) < ln u3 (fR u3 23 p)) ∧
  ∀ u6 : CW, u6 = qI u3 (fR u3 23 p) 5 (fI u3 43 x3) →
  (tg u6 (fR u6 23 p) = 102 ∧ 0 ≤ (6 : Int) ∧ (6 : Int) < ln u6 (fR u6 23 p)) ∧
  ∀ u8 : CW, u8 = qI u6 (fR u6 23 p) 6 x4 →
  Q u8
/-! LetterPost.plain(IIII)I -/
def pC_X0_plain_2_0 (p : Nat) (call : Nat → List ZA → CW → (ZRes → CW → Prop) → Prop) (Q : Int → CW → Prop) (x1 : Int) (x2 : Int) (x3 : Int) (x4 : Int) (w : CW) : Prop :=
  call 68 [ar p, ai x1, ai x2, ai x3, ai x4, ai 0] w (zqI (fun v2 u1 =>
    Q v2 u1) zno)
/-! LetterPost.told(I)I -/
def pC_X0_told_0 (p : Nat) (call : Nat → List ZA → CW → (ZRes → CW → Prop) → Prop) (Q : Int → CW → Prop) (x1 : Int) (w : CW) : Prop :=
  call 1 [al x1, al 0, al 6] w (zqI (fun v2 u1 =>
    ((¬ (v2 = 0) → (tg u1 (fR u1 23 p) = 102 ∧ 0 ≤ x1 ∧ x1 < ln u1 (fR u1 23 p)))) ∧
    ∀ v3 : Int, v3 = (if ¬ (v2 = 0) then aN u1 (fR u1 23 p) x1 else (-1)) →
    Q v3 u1) zno)
/-! LetterPost.guard(I)I -/
def pC_X0_guard_2_0 (p : Nat) (call : Nat → List ZA → CW → (ZRes → CW → Prop) → Prop) (Q : Int → CW → Prop) (x1 : Int) (w : CW) : Prop :=
  (tg w (fR w 23 p) = 102 ∧ 0 ≤ (4 : Int) ∧ (4 : Int) < ln w (fR w 23 p)) ∧
  call 1 [al x1, al 0, al (w32 ((if (32 : Int) < (aN w (fR w 23 p) 4) then 32 else (aN w (fR w 23 p) 4)) - 1))] w (zqI (fun v3 u2 =>
    ((¬ (v3 = 0) → (tg u2 (fR u2 24 p) = 102 ∧ 0 ≤ x1 ∧ x1 < ln u2 (fR u2 24 p)))) ∧
    ∀ v4 : Int, v4 = (if ¬ (v3 = 0) then aN u2 (fR u2 24 p) x1 else (-4)) →
    Q v4 u2) zno)
/-! LetterPost.bound(I)I -/
def pC_X0_bound_33 (p : Nat) (call : Nat → List ZA → CW → (ZRes → CW → Prop) → Prop) (Q : Int → CW → Prop) (x1 : Int) (s0 : Int) (w : CW) : Prop :=
  ((¬ (s0 = 0) → ((111 ≤ tg w (fR w 26 p) ∧ tg w (fR w 26 p) ≤ 119) ∧ 0 ≤ x1 ∧ x1 < ln w (fR w 26 p)) ∧ (hF 113 (tg w (aR w (fR w 26 p) x1)) = true))) ∧
  ∀ v2 : Int, v2 = (if ¬ (s0 = 0) then fI w 113 (aR w (fR w 26 p) x1) else (-4)) →
  Q v2 w
def pC_X0_bound_32 (p : Nat) (call : Nat → List ZA → CW → (ZRes → CW → Prop) → Prop) (Q : Int → CW → Prop) (x1 : Int) (w : CW) : Prop :=
  pC_X0_bound_33 p call Q x1 0 w
def pC_X0_bound_0 (p : Nat) (call : Nat → List ZA → CW → (ZRes → CW → Prop) → Prop) (Q : Int → CW → Prop) (x1 : Int) (w : CW) : Prop :=
  ((fR w 25 p) = 0 →
    pC_X0_bound_32 p call Q x1 w) ∧
  (¬ ((fR w 25 p) = 0) →
    call 1 [al x1, al 0, al 7] w (zqI (fun v7 u6 =>
      ((¬ (v7 = 0) → ((111 ≤ tg u6 (fR u6 26 p) ∧ tg u6 (fR u6 26 p) ≤ 119) ∧ 0 ≤ x1 ∧ x1 < ln u6 (fR u6 26 p)))) ∧
      (¬ (v7 = 0) ∧ (¬ ((aR u6 (fR u6 26 p) x1) = 0)) →
        pC_X0_bound_33 p call Q x1 1 u6) ∧
      (¬ (¬ (v7 = 0) ∧ (¬ ((aR u6 (fR u6 26 p) x1) = 0))) →
        pC_X0_bound_32 p call Q x1 u6)) zno))
/-! LetterPost.<init>()V -/
def pC_X0_init_0 (p : Nat) (call : Nat → List ZA → CW → (ZRes → CW → Prop) → Prop) (Q : CW → Prop) (w : CW) : Prop :=
  ((0 ≤ (24 : Int) ∧ (24 : Int) ≤ 1000000) ∧ cz w + 1 ≤ mz w ∧ cu w + Int.toNat 24 ≤ mu w) ∧
  ∀ u2 : CW, u2 = nA w 112 (Int.toNat 24) →
  ∀ u4 : CW, u4 = pR u2 0 p (cz w + 1) →
  ((0 ≤ (160 : Int) ∧ (160 : Int) ≤ 1000000) ∧ cz u4 + 1 ≤ mz u4 ∧ cu u4 + Int.toNat 160 ≤ mu u4) ∧
  ∀ u5 : CW, u5 = nA u4 119 (Int.toNat 160) →
  ∀ u7 : CW, u7 = pR u5 3 p (cz u4 + 1) →
  ((0 ≤ (12 : Int) ∧ (12 : Int) ≤ 1000000) ∧ cz u7 + 1 ≤ mz u7 ∧ cu u7 + Int.toNat 12 ≤ mu u7) ∧
  ∀ u8 : CW, u8 = nA u7 111 (Int.toNat 12) →
  ∀ u10 : CW, u10 = pR u8 5 p (cz u7 + 1) →
  ((0 ≤ (1600 : Int) ∧ (1600 : Int) ≤ 1000000) ∧ cz u10 + 1 ≤ mz u10 ∧ cu u10 + Int.toNat 1600 ≤ mu u10) ∧
  ∀ u11 : CW, u11 = nA u10 101 (Int.toNat 1600) →
  ∀ u13 : CW, u13 = pR u11 7 p (cz u10 + 1) →
  ((0 ≤ (8 : Int) ∧ (8 : Int) ≤ 1000000) ∧ cz u13 + 1 ≤ mz u13 ∧ cu u13 + Int.toNat 8 ≤ mu u13) ∧
  ∀ u14 : CW, u14 = nA u13 103 (Int.toNat 8) →
  ∀ u16 : CW, u16 = pR u14 15 p (cz u13 + 1) →
  ((0 ≤ (8 : Int) ∧ (8 : Int) ≤ 1000000) ∧ cz u16 + 1 ≤ mz u16 ∧ cu u16 + Int.toNat 8 ≤ mu u16) ∧
  ∀ u17 : CW, u17 = nA u16 102 (Int.toNat 8) →
  ∀ u19 : CW, u19 = pR u17 16 p (cz u16 + 1) →
  ((0 ≤ (7 : Int) ∧ (7 : Int) ≤ 1000000) ∧ cz u19 + 1 ≤ mz u19 ∧ cu u19 + Int.toNat 7 ≤ mu u19) ∧
  ∀ u20 : CW, u20 = nA u19 102 (Int.toNat 7) →
  ∀ u22 : CW, u22 = pR u20 23 p (cz u19 + 1) →
  ((0 ≤ (32 : Int) ∧ (32 : Int) ≤ 1000000) ∧ cz u22 + 1 ≤ mz u22 ∧ cu u22 + Int.toNat 32 ≤ mu u22) ∧
  ∀ u23 : CW, u23 = nA u22 102 (Int.toNat 32) →
  ∀ u25 : CW, u25 = pR u23 24 p (cz u22 + 1) →
  Q u25
/-! LetterPost.count(I)I -/
def pC_X0_count_0 (p : Nat) (call : Nat → List ZA → CW → (ZRes → CW → Prop) → Prop) (Q : Int → CW → Prop) (x1 : Int) (w : CW) : Prop :=
  (x1 = 0 →
    Q (fI w 1 p) w) ∧
  (x1 = 1 →
    Q (fI w 6 p) w) ∧
  (x1 = 2 →
    Q (fI w 4 p) w) ∧
  (x1 = 3 →
    Q (fI w 8 p) w) ∧
  (x1 = 4 →
    Q (fI w 2 p) w) ∧
  (¬ x1 = 0 → ¬ x1 = 1 → ¬ x1 = 2 → ¬ x1 = 3 → ¬ x1 = 4 → 
    Q (-1) w)
/-! LetterPostModel.<init>()V -/
set_option maxRecDepth 100000 in
def pC_X1_init_0 (p : Nat) (call : Nat → List ZA → CW → (ZRes → CW → Prop) → Prop) (Q : CW → Prop) (x0 : Nat) (w : CW) : Prop :=
  (¬ x0 = 0) ∧
  ((0 ≤ (1600 : Int) ∧ (1600 : Int) ≤ 1000000) ∧ cz w + 1 ≤ mz w ∧ cu w + Int.toNat 1600 ≤ mu w) ∧
  ∀ u3 : CW, u3 = nA w 102 (Int.toNat 1600) →
  (hP 127 (tg u3 x0) = true) ∧
  ∀ u5 : CW, u5 = pR u3 127 x0 (cz w + 1) →
  ((0 ≤ (24 : Int) ∧ (24 : Int) ≤ 1000000) ∧ cz u5 + 1 ≤ mz u5 ∧ cu u5 + Int.toNat 24 ≤ mu u5) ∧
  ∀ u7 : CW, u7 = nA u5 103 (Int.toNat 24) →
  (hP 139 (tg u7 x0) = true) ∧
  ∀ u9 : CW, u9 = pR u7 139 x0 (cz u5 + 1) →
  ((0 ≤ (24 : Int) ∧ (24 : Int) ≤ 1000000) ∧ cz u9 + 1 ≤ mz u9 ∧ cu u9 + Int.toNat 24 ≤ mu u9) ∧
  ∀ u11 : CW, u11 = nA u9 102 (Int.toNat 24) →
  (hP 140 (tg u11 x0) = true) ∧
  ∀ u13 : CW, u13 = pR u11 140 x0 (cz u9 + 1) →
  ((0 ≤ (24 : Int) ∧ (24 : Int) ≤ 1000000) ∧ cz u13 + 1 ≤ mz u13 ∧ cu u13 + Int.toNat 24 ≤ mu u13) ∧
  ∀ u15 : CW, u15 = nA u13 102 (Int.toNat 24) →
  (hP 141 (tg u15 x0) = true) ∧
  ∀ u17 : CW, u17 = pR u15 141 x0 (cz u13 + 1) →
  ((0 ≤ (96 : Int) ∧ (96 : Int) ≤ 1000000) ∧ cz u17 + 1 ≤ mz u17 ∧ cu u17 + Int.toNat 96 ≤ mu u17) ∧
  ∀ u19 : CW, u19 = nA u17 102 (Int.toNat 96) →
  (hP 142 (tg u19 x0) = true) ∧
  ∀ u21 : CW, u21 = pR u19 142 x0 (cz u17 + 1) →
  ((0 ≤ (1700 : Int) ∧ (1700 : Int) ≤ 1000000) ∧ cz u21 + 1 ≤ mz u21 ∧ cu u21 + Int.toNat 1700 ≤ mu u21) ∧
  ∀ u23 : CW, u23 = nA u21 102 (Int.toNat 1700) →
  (hP 144 (tg u23 x0) = true) ∧
  ∀ u25 : CW, u25 = pR u23 144 x0 (cz u21 + 1) →
  ((0 ≤ (1700 : Int) ∧ (1700 : Int) ≤ 1000000) ∧ cz u25 + 1 ≤ mz u25 ∧ cu u25 + Int.toNat 1700 ≤ mu u25) ∧
  ∀ u27 : CW, u27 = nA u25 102 (Int.toNat 1700) →
  (hP 145 (tg u27 x0) = true) ∧
  ∀ u29 : CW, u29 = pR u27 145 x0 (cz u25 + 1) →
  ((0 ≤ (1700 : Int) ∧ (1700 : Int) ≤ 1000000) ∧ cz u29 + 1 ≤ mz u29 ∧ cu u29 + Int.toNat 1700 ≤ mu u29) ∧
  ∀ u31 : CW, u31 = nA u29 102 (Int.toNat 1700) →
  (hP 146 (tg u31 x0) = true) ∧
  ∀ u33 : CW, u33 = pR u31 146 x0 (cz u29 + 1) →
  ((0 ≤ (1700 : Int) ∧ (1700 : Int) ≤ 1000000) ∧ cz u33 + 1 ≤ mz u33 ∧ cu u33 + Int.toNat 1700 ≤ mu u33) ∧
  ∀ u35 : CW, u35 = nA u33 102 (Int.toNat 1700) →
  (hP 147 (tg u35 x0) = true) ∧
  ∀ u37 : CW, u37 = pR u35 147 x0 (cz u33 + 1) →
  ((0 ≤ (1700 : Int) ∧ (1700 : Int) ≤ 1000000) ∧ cz u37 + 1 ≤ mz u37 ∧ cu u37 + Int.toNat 1700 ≤ mu u37) ∧
  ∀ u39 : CW, u39 = nA u37 103 (Int.toNat 1700) →
  (hP 148 (tg u39 x0) = true) ∧
  ∀ u41 : CW, u41 = pR u39 148 x0 (cz u37 + 1) →
  ((0 ≤ (1700 : Int) ∧ (1700 : Int) ≤ 1000000) ∧ cz u41 + 1 ≤ mz u41 ∧ cu u41 + Int.toNat 1700 ≤ mu u41) ∧
  ∀ u43 : CW, u43 = nA u41 102 (Int.toNat 1700) →
  (hP 149 (tg u43 x0) = true) ∧
  ∀ u45 : CW, u45 = pR u43 149 x0 (cz u41 + 1) →
  ((0 ≤ (1700 : Int) ∧ (1700 : Int) ≤ 1000000) ∧ cz u45 + 1 ≤ mz u45 ∧ cu u45 + Int.toNat 1700 ≤ mu u45) ∧
  ∀ u47 : CW, u47 = nA u45 102 (Int.toNat 1700) →
  (hP 150 (tg u47 x0) = true) ∧
  ∀ u49 : CW, u49 = pR u47 150 x0 (cz u45 + 1) →
  ((0 ≤ (1700 : Int) ∧ (1700 : Int) ≤ 1000000) ∧ cz u49 + 1 ≤ mz u49 ∧ cu u49 + Int.toNat 1700 ≤ mu u49) ∧
  ∀ u51 : CW, u51 = nA u49 102 (Int.toNat 1700) →
  (hP 151 (tg u51 x0) = true) ∧
  ∀ u53 : CW, u53 = pR u51 151 x0 (cz u49 + 1) →
  ((0 ≤ (1700 : Int) ∧ (1700 : Int) ≤ 1000000) ∧ cz u53 + 1 ≤ mz u53 ∧ cu u53 + Int.toNat 1700 ≤ mu u53) ∧
  ∀ u55 : CW, u55 = nA u53 102 (Int.toNat 1700) →
  (hP 152 (tg u55 x0) = true) ∧
  ∀ u57 : CW, u57 = pR u55 152 x0 (cz u53 + 1) →
  ((0 ≤ (1700 : Int) ∧ (1700 : Int) ≤ 1000000) ∧ cz u57 + 1 ≤ mz u57 ∧ cu u57 + Int.toNat 1700 ≤ mu u57) ∧
  ∀ u59 : CW, u59 = nA u57 102 (Int.toNat 1700) →
  (hP 153 (tg u59 x0) = true) ∧
  ∀ u61 : CW, u61 = pR u59 153 x0 (cz u57 + 1) →
  ((0 ≤ (192 : Int) ∧ (192 : Int) ≤ 1000000) ∧ cz u61 + 1 ≤ mz u61 ∧ cu u61 + Int.toNat 192 ≤ mu u61) ∧
  ∀ u63 : CW, u63 = nA u61 102 (Int.toNat 192) →
  (hP 155 (tg u63 x0) = true) ∧
  ∀ u65 : CW, u65 = pR u63 155 x0 (cz u61 + 1) →
  ((0 ≤ (1536 : Int) ∧ (1536 : Int) ≤ 1000000) ∧ cz u65 + 1 ≤ mz u65 ∧ cu u65 + Int.toNat 1536 ≤ mu u65) ∧
  ∀ u67 : CW, u67 = nA u65 103 (Int.toNat 1536) →
  (hP 156 (tg u67 x0) = true) ∧
  ∀ u69 : CW, u69 = pR u67 156 x0 (cz u65 + 1) →
  ((0 ≤ (1536 : Int) ∧ (1536 : Int) ≤ 1000000) ∧ cz u69 + 1 ≤ mz u69 ∧ cu u69 + Int.toNat 1536 ≤ mu u69) ∧
  ∀ u71 : CW, u71 = nA u69 102 (Int.toNat 1536) →
  (hP 157 (tg u71 x0) = true) ∧
  ∀ u73 : CW, u73 = pR u71 157 x0 (cz u69 + 1) →
  ((0 ≤ (8 : Int) ∧ (8 : Int) ≤ 1000000) ∧ cz u73 + 1 ≤ mz u73 ∧ cu u73 + Int.toNat 8 ≤ mu u73) ∧
  ∀ u75 : CW, u75 = nA u73 102 (Int.toNat 8) →
  (hP 160 (tg u75 x0) = true) ∧
  ∀ u77 : CW, u77 = pR u75 160 x0 (cz u73 + 1) →
  ((0 ≤ (8 : Int) ∧ (8 : Int) ≤ 1000000) ∧ cz u77 + 1 ≤ mz u77 ∧ cu u77 + Int.toNat 8 ≤ mu u77) ∧
  ∀ u79 : CW, u79 = nA u77 102 (Int.toNat 8) →
  (hP 161 (tg u79 x0) = true) ∧
  ∀ u81 : CW, u81 = pR u79 161 x0 (cz u77 + 1) →
  ((0 ≤ (8 : Int) ∧ (8 : Int) ≤ 1000000) ∧ cz u81 + 1 ≤ mz u81 ∧ cu u81 + Int.toNat 8 ≤ mu u81) ∧
  ∀ u83 : CW, u83 = nA u81 102 (Int.toNat 8) →
  (hP 162 (tg u83 x0) = true) ∧
  ∀ u85 : CW, u85 = pR u83 162 x0 (cz u81 + 1) →
  ((0 ≤ (8 : Int) ∧ (8 : Int) ≤ 1000000) ∧ cz u85 + 1 ≤ mz u85 ∧ cu u85 + Int.toNat 8 ≤ mu u85) ∧
  ∀ u87 : CW, u87 = nA u85 102 (Int.toNat 8) →
  (hP 163 (tg u87 x0) = true) ∧
  ∀ u89 : CW, u89 = pR u87 163 x0 (cz u85 + 1) →
  ((0 ≤ (8 : Int) ∧ (8 : Int) ≤ 1000000) ∧ cz u89 + 1 ≤ mz u89 ∧ cu u89 + Int.toNat 8 ≤ mu u89) ∧
  ∀ u91 : CW, u91 = nA u89 102 (Int.toNat 8) →
  (hP 164 (tg u91 x0) = true) ∧
  ∀ u93 : CW, u93 = pR u91 164 x0 (cz u89 + 1) →
  ((0 ≤ (8 : Int) ∧ (8 : Int) ≤ 1000000) ∧ cz u93 + 1 ≤ mz u93 ∧ cu u93 + Int.toNat 8 ≤ mu u93) ∧
  ∀ u95 : CW, u95 = nA u93 102 (Int.toNat 8) →
  (hP 165 (tg u95 x0) = true) ∧
  ∀ u97 : CW, u97 = pR u95 165 x0 (cz u93 + 1) →
  ((0 ≤ (8 : Int) ∧ (8 : Int) ≤ 1000000) ∧ cz u97 + 1 ≤ mz u97 ∧ cu u97 + Int.toNat 8 ≤ mu u97) ∧
  ∀ u99 : CW, u99 = nA u97 104 (Int.toNat 8) →
  (hP 166 (tg u99 x0) = true) ∧
  ∀ u101 : CW, u101 = pR u99 166 x0 (cz u97 + 1) →
  ((0 ≤ (64 : Int) ∧ (64 : Int) ≤ 1000000) ∧ cz u101 + 1 ≤ mz u101 ∧ cu u101 + Int.toNat 64 ≤ mu u101) ∧
  ∀ u103 : CW, u103 = nA u101 102 (Int.toNat 64) →
  (hP 167 (tg u103 x0) = true) ∧
  ∀ u105 : CW, u105 = pR u103 167 x0 (cz u101 + 1) →
  ((0 ≤ (12 : Int) ∧ (12 : Int) ≤ 1000000) ∧ cz u105 + 1 ≤ mz u105 ∧ cu u105 + Int.toNat 12 ≤ mu u105) ∧
  ∀ u107 : CW, u107 = nA u105 103 (Int.toNat 12) →
  (hP 169 (tg u107 x0) = true) ∧
  ∀ u109 : CW, u109 = pR u107 169 x0 (cz u105 + 1) →
  ((0 ≤ (12 : Int) ∧ (12 : Int) ≤ 1000000) ∧ cz u109 + 1 ≤ mz u109 ∧ cu u109 + Int.toNat 12 ≤ mu u109) ∧
  ∀ u111 : CW, u111 = nA u109 102 (Int.toNat 12) →
  (hP 170 (tg u111 x0) = true) ∧
  ∀ u113 : CW, u113 = pR u111 170 x0 (cz u109 + 1) →
  ((0 ≤ (36 : Int) ∧ (36 : Int) ≤ 1000000) ∧ cz u113 + 1 ≤ mz u113 ∧ cu u113 + Int.toNat 36 ≤ mu u113) ∧
  ∀ u115 : CW, u115 = nA u113 102 (Int.toNat 36) →
  (hP 171 (tg u115 x0) = true) ∧
  ∀ u117 : CW, u117 = pR u115 171 x0 (cz u113 + 1) →
  ((0 ≤ (12 : Int) ∧ (12 : Int) ≤ 1000000) ∧ cz u117 + 1 ≤ mz u117 ∧ cu u117 + Int.toNat 12 ≤ mu u117) ∧
  ∀ u119 : CW, u119 = nA u117 102 (Int.toNat 12) →
  (hP 172 (tg u119 x0) = true) ∧
  ∀ u121 : CW, u121 = pR u119 172 x0 (cz u117 + 1) →
  ((0 ≤ (12 : Int) ∧ (12 : Int) ≤ 1000000) ∧ cz u121 + 1 ≤ mz u121 ∧ cu u121 + Int.toNat 12 ≤ mu u121) ∧
  ∀ u123 : CW, u123 = nA u121 102 (Int.toNat 12) →
  (hP 173 (tg u123 x0) = true) ∧
  ∀ u125 : CW, u125 = pR u123 173 x0 (cz u121 + 1) →
  ((0 ≤ (192 : Int) ∧ (192 : Int) ≤ 1000000) ∧ cz u125 + 1 ≤ mz u125 ∧ cu u125 + Int.toNat 192 ≤ mu u125) ∧
  ∀ u127 : CW, u127 = nA u125 102 (Int.toNat 192) →
  (hP 174 (tg u127 x0) = true) ∧
  ∀ u129 : CW, u129 = pR u127 174 x0 (cz u125 + 1) →
  ((0 ≤ (192 : Int) ∧ (192 : Int) ≤ 1000000) ∧ cz u129 + 1 ≤ mz u129 ∧ cu u129 + Int.toNat 192 ≤ mu u129) ∧
  ∀ u131 : CW, u131 = nA u129 102 (Int.toNat 192) →
  (hP 175 (tg u131 x0) = true) ∧
  ∀ u133 : CW, u133 = pR u131 175 x0 (cz u129 + 1) →
  ((0 ≤ (192 : Int) ∧ (192 : Int) ≤ 1000000) ∧ cz u133 + 1 ≤ mz u133 ∧ cu u133 + Int.toNat 192 ≤ mu u133) ∧
  ∀ u135 : CW, u135 = nA u133 102 (Int.toNat 192) →
  (hP 176 (tg u135 x0) = true) ∧
  ∀ u137 : CW, u137 = pR u135 176 x0 (cz u133 + 1) →
  ((0 ≤ (768 : Int) ∧ (768 : Int) ≤ 1000000) ∧ cz u137 + 1 ≤ mz u137 ∧ cu u137 + Int.toNat 768 ≤ mu u137) ∧
  ∀ u139 : CW, u139 = nA u137 102 (Int.toNat 768) →
  (hP 177 (tg u139 x0) = true) ∧
  ∀ u141 : CW, u141 = pR u139 177 x0 (cz u137 + 1) →
  ((0 ≤ (768 : Int) ∧ (768 : Int) ≤ 1000000) ∧ cz u141 + 1 ≤ mz u141 ∧ cu u141 + Int.toNat 768 ≤ mu u141) ∧
  ∀ u143 : CW, u143 = nA u141 102 (Int.toNat 768) →
  (hP 178 (tg u143 x0) = true) ∧
  ∀ u145 : CW, u145 = pR u143 178 x0 (cz u141 + 1) →
  ((0 ≤ (384 : Int) ∧ (384 : Int) ≤ 1000000) ∧ cz u145 + 1 ≤ mz u145 ∧ cu u145 + Int.toNat 384 ≤ mu u145) ∧
  ∀ u147 : CW, u147 = nA u145 102 (Int.toNat 384) →
  (hP 179 (tg u147 x0) = true) ∧
  ∀ u149 : CW, u149 = pR u147 179 x0 (cz u145 + 1) →
  ((0 ≤ (192 : Int) ∧ (192 : Int) ≤ 1000000) ∧ cz u149 + 1 ≤ mz u149 ∧ cu u149 + Int.toNat 192 ≤ mu u149) ∧
  ∀ u151 : CW, u151 = nA u149 102 (Int.toNat 192) →
  (hP 180 (tg u151 x0) = true) ∧
  ∀ u153 : CW, u153 = pR u151 180 x0 (cz u149 + 1) →
  ((0 ≤ (192 : Int) ∧ (192 : Int) ≤ 1000000) ∧ cz u153 + 1 ≤ mz u153 ∧ cu u153 + Int.toNat 192 ≤ mu u153) ∧
  ∀ u155 : CW, u155 = nA u153 102 (Int.toNat 192) →
  (hP 181 (tg u155 x0) = true) ∧
  ∀ u157 : CW, u157 = pR u155 181 x0 (cz u153 + 1) →
  ((0 ≤ (192 : Int) ∧ (192 : Int) ≤ 1000000) ∧ cz u157 + 1 ≤ mz u157 ∧ cu u157 + Int.toNat 192 ≤ mu u157) ∧
  ∀ u159 : CW, u159 = nA u157 102 (Int.toNat 192) →
  (hP 182 (tg u159 x0) = true) ∧
  ∀ u161 : CW, u161 = pR u159 182 x0 (cz u157 + 1) →
  ((0 ≤ (192 : Int) ∧ (192 : Int) ≤ 1000000) ∧ cz u161 + 1 ≤ mz u161 ∧ cu u161 + Int.toNat 192 ≤ mu u161) ∧
  ∀ u163 : CW, u163 = nA u161 103 (Int.toNat 192) →
  (hP 183 (tg u163 x0) = true) ∧
  ∀ u165 : CW, u165 = pR u163 183 x0 (cz u161 + 1) →
  ((0 ≤ (192 : Int) ∧ (192 : Int) ≤ 1000000) ∧ cz u165 + 1 ≤ mz u165 ∧ cu u165 + Int.toNat 192 ≤ mu u165) ∧
  ∀ u167 : CW, u167 = nA u165 102 (Int.toNat 192) →
  (hP 184 (tg u167 x0) = true) ∧
  ∀ u169 : CW, u169 = pR u167 184 x0 (cz u165 + 1) →
  ((0 ≤ (192 : Int) ∧ (192 : Int) ≤ 1000000) ∧ cz u169 + 1 ≤ mz u169 ∧ cu u169 + Int.toNat 192 ≤ mu u169) ∧
  ∀ u171 : CW, u171 = nA u169 102 (Int.toNat 192) →
  (hP 185 (tg u171 x0) = true) ∧
  ∀ u173 : CW, u173 = pR u171 185 x0 (cz u169 + 1) →
  ((0 ≤ (576 : Int) ∧ (576 : Int) ≤ 1000000) ∧ cz u173 + 1 ≤ mz u173 ∧ cu u173 + Int.toNat 576 ≤ mu u173) ∧
  ∀ u175 : CW, u175 = nA u173 102 (Int.toNat 576) →
  (hP 186 (tg u175 x0) = true) ∧
  ∀ u177 : CW, u177 = pR u175 186 x0 (cz u173 + 1) →
  ((0 ≤ (576 : Int) ∧ (576 : Int) ≤ 1000000) ∧ cz u177 + 1 ≤ mz u177 ∧ cu u177 + Int.toNat 576 ≤ mu u177) ∧
  ∀ u179 : CW, u179 = nA u177 102 (Int.toNat 576) →
  (hP 187 (tg u179 x0) = true) ∧
  ∀ u181 : CW, u181 = pR u179 187 x0 (cz u177 + 1) →
  ((0 ≤ (40 : Int) ∧ (40 : Int) ≤ 1000000) ∧ cz u181 + 1 ≤ mz u181 ∧ cu u181 + Int.toNat 40 ≤ mu u181) ∧
  ∀ u183 : CW, u183 = nA u181 102 (Int.toNat 40) →
  (hP 189 (tg u183 x0) = true) ∧
  ∀ u185 : CW, u185 = pR u183 189 x0 (cz u181 + 1) →
  ((0 ≤ (40 : Int) ∧ (40 : Int) ≤ 1000000) ∧ cz u185 + 1 ≤ mz u185 ∧ cu u185 + Int.toNat 40 ≤ mu u185) ∧
  ∀ u187 : CW, u187 = nA u185 102 (Int.toNat 40) →
  (hP 190 (tg u187 x0) = true) ∧
  ∀ u189 : CW, u189 = pR u187 190 x0 (cz u185 + 1) →
  ((0 ≤ (41 : Int) ∧ (41 : Int) ≤ 1000000) ∧ cz u189 + 1 ≤ mz u189 ∧ cu u189 + Int.toNat 41 ≤ mu u189) ∧
  ∀ u191 : CW, u191 = nA u189 102 (Int.toNat 41) →
  (hP 191 (tg u191 x0) = true) ∧
  ∀ u193 : CW, u193 = pR u191 191 x0 (cz u189 + 1) →
  ((0 ≤ (33000 : Int) ∧ (33000 : Int) ≤ 1000000) ∧ cz u193 + 1 ≤ mz u193 ∧ cu u193 + Int.toNat 33000 ≤ mu u193) ∧
  ∀ u195 : CW, u195 = nA u193 102 (Int.toNat 33000) →
  (hP 193 (tg u195 x0) = true) ∧
  ∀ u197 : CW, u197 = pR u195 193 x0 (cz u193 + 1) →
  ((0 ≤ (33000 : Int) ∧ (33000 : Int) ≤ 1000000) ∧ cz u197 + 1 ≤ mz u197 ∧ cu u197 + Int.toNat 33000 ≤ mu u197) ∧
  ∀ u199 : CW, u199 = nA u197 102 (Int.toNat 33000) →
  (hP 194 (tg u199 x0) = true) ∧
  ∀ u201 : CW, u201 = pR u199 194 x0 (cz u197 + 1) →
  ((0 ≤ (33000 : Int) ∧ (33000 : Int) ≤ 1000000) ∧ cz u201 + 1 ≤ mz u201 ∧ cu u201 + Int.toNat 33000 ≤ mu u201) ∧
  ∀ u203 : CW, u203 = nA u201 102 (Int.toNat 33000) →
  (hP 195 (tg u203 x0) = true) ∧
  ∀ u205 : CW, u205 = pR u203 195 x0 (cz u201 + 1) →
  ((0 ≤ (33000 : Int) ∧ (33000 : Int) ≤ 1000000) ∧ cz u205 + 1 ≤ mz u205 ∧ cu u205 + Int.toNat 33000 ≤ mu u205) ∧
  ∀ u207 : CW, u207 = nA u205 104 (Int.toNat 33000) →
  (hP 196 (tg u207 x0) = true) ∧
  ∀ u209 : CW, u209 = pR u207 196 x0 (cz u205 + 1) →
  ((0 ≤ (40 : Int) ∧ (40 : Int) ≤ 1000000) ∧ cz u209 + 1 ≤ mz u209 ∧ cu u209 + Int.toNat 40 ≤ mu u209) ∧
  ∀ u211 : CW, u211 = nA u209 104 (Int.toNat 40) →
  (hP 197 (tg u211 x0) = true) ∧
  ∀ u213 : CW, u213 = pR u211 197 x0 (cz u209 + 1) →
  ((0 ≤ (2000 : Int) ∧ (2000 : Int) ≤ 1000000) ∧ cz u213 + 1 ≤ mz u213 ∧ cu u213 + Int.toNat 2000 ≤ mu u213) ∧
  ∀ u215 : CW, u215 = nA u213 102 (Int.toNat 2000) →
  (hP 199 (tg u215 x0) = true) ∧
  ∀ u217 : CW, u217 = pR u215 199 x0 (cz u213 + 1) →
  ((0 ≤ (2000 : Int) ∧ (2000 : Int) ≤ 1000000) ∧ cz u217 + 1 ≤ mz u217 ∧ cu u217 + Int.toNat 2000 ≤ mu u217) ∧
  ∀ u219 : CW, u219 = nA u217 102 (Int.toNat 2000) →
  (hP 200 (tg u219 x0) = true) ∧
  ∀ u221 : CW, u221 = pR u219 200 x0 (cz u217 + 1) →
  ((0 ≤ (2000 : Int) ∧ (2000 : Int) ≤ 1000000) ∧ cz u221 + 1 ≤ mz u221 ∧ cu u221 + Int.toNat 2000 ≤ mu u221) ∧
  ∀ u223 : CW, u223 = nA u221 102 (Int.toNat 2000) →
  (hP 201 (tg u223 x0) = true) ∧
  ∀ u225 : CW, u225 = pR u223 201 x0 (cz u221 + 1) →
  ((0 ≤ (2000 : Int) ∧ (2000 : Int) ≤ 1000000) ∧ cz u225 + 1 ≤ mz u225 ∧ cu u225 + Int.toNat 2000 ≤ mu u225) ∧
  ∀ u227 : CW, u227 = nA u225 102 (Int.toNat 2000) →
  (hP 202 (tg u227 x0) = true) ∧
  ∀ u229 : CW, u229 = pR u227 202 x0 (cz u225 + 1) →
  ((0 ≤ (1700 : Int) ∧ (1700 : Int) ≤ 1000000) ∧ cz u229 + 1 ≤ mz u229 ∧ cu u229 + Int.toNat 1700 ≤ mu u229) ∧
  ∀ u231 : CW, u231 = nA u229 102 (Int.toNat 1700) →
  (hP 203 (tg u231 x0) = true) ∧
  ∀ u233 : CW, u233 = pR u231 203 x0 (cz u229 + 1) →
  ((0 ≤ (13 : Int) ∧ (13 : Int) ≤ 1000000) ∧ cz u233 + 1 ≤ mz u233 ∧ cu u233 + Int.toNat 13 ≤ mu u233) ∧
  ∀ u235 : CW, u235 = nA u233 102 (Int.toNat 13) →
  (hP 204 (tg u235 x0) = true) ∧
  ∀ u237 : CW, u237 = pR u235 204 x0 (cz u233 + 1) →
  ((0 ≤ (13 : Int) ∧ (13 : Int) ≤ 1000000) ∧ cz u237 + 1 ≤ mz u237 ∧ cu u237 + Int.toNat 13 ≤ mu u237) ∧
  ∀ u239 : CW, u239 = nA u237 102 (Int.toNat 13) →
  (hP 205 (tg u239 x0) = true) ∧
  ∀ u241 : CW, u241 = pR u239 205 x0 (cz u237 + 1) →
  ((0 ≤ (13 : Int) ∧ (13 : Int) ≤ 1000000) ∧ cz u241 + 1 ≤ mz u241 ∧ cu u241 + Int.toNat 13 ≤ mu u241) ∧
  ∀ u243 : CW, u243 = nA u241 102 (Int.toNat 13) →
  (hP 206 (tg u243 x0) = true) ∧
  ∀ u245 : CW, u245 = pR u243 206 x0 (cz u241 + 1) →
  ((0 ≤ (3900 : Int) ∧ (3900 : Int) ≤ 1000000) ∧ cz u245 + 1 ≤ mz u245 ∧ cu u245 + Int.toNat 3900 ≤ mu u245) ∧
  ∀ u247 : CW, u247 = nA u245 102 (Int.toNat 3900) →
  (hP 207 (tg u247 x0) = true) ∧
  ∀ u249 : CW, u249 = pR u247 207 x0 (cz u245 + 1) →
  ((0 ≤ (3900 : Int) ∧ (3900 : Int) ≤ 1000000) ∧ cz u249 + 1 ≤ mz u249 ∧ cu u249 + Int.toNat 3900 ≤ mu u249) ∧
  ∀ u251 : CW, u251 = nA u249 102 (Int.toNat 3900) →
  (hP 208 (tg u251 x0) = true) ∧
  ∀ u253 : CW, u253 = pR u251 208 x0 (cz u249 + 1) →
  ((0 ≤ (3900 : Int) ∧ (3900 : Int) ≤ 1000000) ∧ cz u253 + 1 ≤ mz u253 ∧ cu u253 + Int.toNat 3900 ≤ mu u253) ∧
  ∀ u255 : CW, u255 = nA u253 102 (Int.toNat 3900) →
  (hP 209 (tg u255 x0) = true) ∧
  ∀ u257 : CW, u257 = pR u255 209 x0 (cz u253 + 1) →
  ((0 ≤ (3900 : Int) ∧ (3900 : Int) ≤ 1000000) ∧ cz u257 + 1 ≤ mz u257 ∧ cu u257 + Int.toNat 3900 ≤ mu u257) ∧
  ∀ u259 : CW, u259 = nA u257 102 (Int.toNat 3900) →
  (hP 210 (tg u259 x0) = true) ∧
  ∀ u261 : CW, u261 = pR u259 210 x0 (cz u257 + 1) →
  ((0 ≤ (3900 : Int) ∧ (3900 : Int) ≤ 1000000) ∧ cz u261 + 1 ≤ mz u261 ∧ cu u261 + Int.toNat 3900 ≤ mu u261) ∧
  ∀ u263 : CW, u263 = nA u261 102 (Int.toNat 3900) →
  (hP 211 (tg u263 x0) = true) ∧
  ∀ u265 : CW, u265 = pR u263 211 x0 (cz u261 + 1) →
  ((0 ≤ (3900 : Int) ∧ (3900 : Int) ≤ 1000000) ∧ cz u265 + 1 ≤ mz u265 ∧ cu u265 + Int.toNat 3900 ≤ mu u265) ∧
  ∀ u267 : CW, u267 = nA u265 102 (Int.toNat 3900) →
  (hP 212 (tg u267 x0) = true) ∧
  ∀ u269 : CW, u269 = pR u267 212 x0 (cz u265 + 1) →
  ((0 ≤ (3900 : Int) ∧ (3900 : Int) ≤ 1000000) ∧ cz u269 + 1 ≤ mz u269 ∧ cu u269 + Int.toNat 3900 ≤ mu u269) ∧
  ∀ u271 : CW, u271 = nA u269 102 (Int.toNat 3900) →
  (hP 213 (tg u271 x0) = true) ∧
  ∀ u273 : CW, u273 = pR u271 213 x0 (cz u269 + 1) →
  ((0 ≤ (3900 : Int) ∧ (3900 : Int) ≤ 1000000) ∧ cz u273 + 1 ≤ mz u273 ∧ cu u273 + Int.toNat 3900 ≤ mu u273) ∧
  ∀ u275 : CW, u275 = nA u273 102 (Int.toNat 3900) →
  (hP 214 (tg u275 x0) = true) ∧
  ∀ u277 : CW, u277 = pR u275 214 x0 (cz u273 + 1) →
  ((0 ≤ (3900 : Int) ∧ (3900 : Int) ≤ 1000000) ∧ cz u277 + 1 ≤ mz u277 ∧ cu u277 + Int.toNat 3900 ≤ mu u277) ∧
  ∀ u279 : CW, u279 = nA u277 102 (Int.toNat 3900) →
  (hP 215 (tg u279 x0) = true) ∧
  ∀ u281 : CW, u281 = pR u279 215 x0 (cz u277 + 1) →
  ((0 ≤ (3900 : Int) ∧ (3900 : Int) ≤ 1000000) ∧ cz u281 + 1 ≤ mz u281 ∧ cu u281 + Int.toNat 3900 ≤ mu u281) ∧
  ∀ u283 : CW, u283 = nA u281 102 (Int.toNat 3900) →
  (hP 216 (tg u283 x0) = true) ∧
  ∀ u285 : CW, u285 = pR u283 216 x0 (cz u281 + 1) →
  ((0 ≤ (3900 : Int) ∧ (3900 : Int) ≤ 1000000) ∧ cz u285 + 1 ≤ mz u285 ∧ cu u285 + Int.toNat 3900 ≤ mu u285) ∧
  ∀ u287 : CW, u287 = nA u285 102 (Int.toNat 3900) →
  (hP 217 (tg u287 x0) = true) ∧
  ∀ u289 : CW, u289 = pR u287 217 x0 (cz u285 + 1) →
  ((0 ≤ (3900 : Int) ∧ (3900 : Int) ≤ 1000000) ∧ cz u289 + 1 ≤ mz u289 ∧ cu u289 + Int.toNat 3900 ≤ mu u289) ∧
  ∀ u291 : CW, u291 = nA u289 103 (Int.toNat 3900) →
  (hP 218 (tg u291 x0) = true) ∧
  ∀ u293 : CW, u293 = pR u291 218 x0 (cz u289 + 1) →
  ((0 ≤ (3900 : Int) ∧ (3900 : Int) ≤ 1000000) ∧ cz u293 + 1 ≤ mz u293 ∧ cu u293 + Int.toNat 3900 ≤ mu u293) ∧
  ∀ u295 : CW, u295 = nA u293 104 (Int.toNat 3900) →
  (hP 219 (tg u295 x0) = true) ∧
  ∀ u297 : CW, u297 = pR u295 219 x0 (cz u293 + 1) →
  ((0 ≤ (400 : Int) ∧ (400 : Int) ≤ 1000000) ∧ cz u297 + 1 ≤ mz u297 ∧ cu u297 + Int.toNat 400 ≤ mu u297) ∧
  ∀ u299 : CW, u299 = nA u297 102 (Int.toNat 400) →
  (hP 221 (tg u299 x0) = true) ∧
  ∀ u301 : CW, u301 = pR u299 221 x0 (cz u297 + 1) →
  ((0 ≤ (400 : Int) ∧ (400 : Int) ≤ 1000000) ∧ cz u301 + 1 ≤ mz u301 ∧ cu u301 + Int.toNat 400 ≤ mu u301) ∧
  ∀ u303 : CW, u303 = nA u301 102 (Int.toNat 400) →
  (hP 222 (tg u303 x0) = true) ∧
  ∀ u305 : CW, u305 = pR u303 222 x0 (cz u301 + 1) →
  ((0 ≤ (400 : Int) ∧ (400 : Int) ≤ 1000000) ∧ cz u305 + 1 ≤ mz u305 ∧ cu u305 + Int.toNat 400 ≤ mu u305) ∧
  ∀ u307 : CW, u307 = nA u305 102 (Int.toNat 400) →
  (hP 223 (tg u307 x0) = true) ∧
  ∀ u309 : CW, u309 = pR u307 223 x0 (cz u305 + 1) →
  ((0 ≤ (400 : Int) ∧ (400 : Int) ≤ 1000000) ∧ cz u309 + 1 ≤ mz u309 ∧ cu u309 + Int.toNat 400 ≤ mu u309) ∧
  ∀ u311 : CW, u311 = nA u309 103 (Int.toNat 400) →
  (hP 224 (tg u311 x0) = true) ∧
  ∀ u313 : CW, u313 = pR u311 224 x0 (cz u309 + 1) →
  ((0 ≤ (400 : Int) ∧ (400 : Int) ≤ 1000000) ∧ cz u313 + 1 ≤ mz u313 ∧ cu u313 + Int.toNat 400 ≤ mu u313) ∧
  ∀ u315 : CW, u315 = nA u313 104 (Int.toNat 400) →
  (hP 225 (tg u315 x0) = true) ∧
  ∀ u317 : CW, u317 = pR u315 225 x0 (cz u313 + 1) →
  ((0 ≤ (100 : Int) ∧ (100 : Int) ≤ 1000000) ∧ cz u317 + 1 ≤ mz u317 ∧ cu u317 + Int.toNat 100 ≤ mu u317) ∧
  ∀ u319 : CW, u319 = nA u317 102 (Int.toNat 100) →
  (hP 227 (tg u319 x0) = true) ∧
  ∀ u321 : CW, u321 = pR u319 227 x0 (cz u317 + 1) →
  ((0 ≤ (100 : Int) ∧ (100 : Int) ≤ 1000000) ∧ cz u321 + 1 ≤ mz u321 ∧ cu u321 + Int.toNat 100 ≤ mu u321) ∧
  ∀ u323 : CW, u323 = nA u321 102 (Int.toNat 100) →
  (hP 228 (tg u323 x0) = true) ∧
  ∀ u325 : CW, u325 = pR u323 228 x0 (cz u321 + 1) →
  ((0 ≤ (100 : Int) ∧ (100 : Int) ≤ 1000000) ∧ cz u325 + 1 ≤ mz u325 ∧ cu u325 + Int.toNat 100 ≤ mu u325) ∧
  ∀ u327 : CW, u327 = nA u325 103 (Int.toNat 100) →
  (hP 229 (tg u327 x0) = true) ∧
  ∀ u329 : CW, u329 = pR u327 229 x0 (cz u325 + 1) →
  ((0 ≤ (100 : Int) ∧ (100 : Int) ≤ 1000000) ∧ cz u329 + 1 ≤ mz u329 ∧ cu u329 + Int.toNat 100 ≤ mu u329) ∧
  ∀ u331 : CW, u331 = nA u329 104 (Int.toNat 100) →
  (hP 230 (tg u331 x0) = true) ∧
  ∀ u333 : CW, u333 = pR u331 230 x0 (cz u329 + 1) →
  ((0 ≤ (100 : Int) ∧ (100 : Int) ≤ 1000000) ∧ cz u333 + 1 ≤ mz u333 ∧ cu u333 + Int.toNat 100 ≤ mu u333) ∧
  ∀ u335 : CW, u335 = nA u333 103 (Int.toNat 100) →
  (hP 231 (tg u335 x0) = true) ∧
  ∀ u337 : CW, u337 = pR u335 231 x0 (cz u333 + 1) →
  ((0 ≤ (300 : Int) ∧ (300 : Int) ≤ 1000000) ∧ cz u337 + 1 ≤ mz u337 ∧ cu u337 + Int.toNat 300 ≤ mu u337) ∧
  ∀ u339 : CW, u339 = nA u337 102 (Int.toNat 300) →
  (hP 233 (tg u339 x0) = true) ∧
  ∀ u341 : CW, u341 = pR u339 233 x0 (cz u337 + 1) →
  ((0 ≤ (300 : Int) ∧ (300 : Int) ≤ 1000000) ∧ cz u341 + 1 ≤ mz u341 ∧ cu u341 + Int.toNat 300 ≤ mu u341) ∧
  ∀ u343 : CW, u343 = nA u341 102 (Int.toNat 300) →
  (hP 234 (tg u343 x0) = true) ∧
  ∀ u345 : CW, u345 = pR u343 234 x0 (cz u341 + 1) →
  ((0 ≤ (192 : Int) ∧ (192 : Int) ≤ 1000000) ∧ cz u345 + 1 ≤ mz u345 ∧ cu u345 + Int.toNat 192 ≤ mu u345) ∧
  ∀ u347 : CW, u347 = nA u345 104 (Int.toNat 192) →
  (hP 235 (tg u347 x0) = true) ∧
  ∀ u349 : CW, u349 = pR u347 235 x0 (cz u345 + 1) →
  ((0 ≤ (160 : Int) ∧ (160 : Int) ≤ 1000000) ∧ cz u349 + 1 ≤ mz u349 ∧ cu u349 + Int.toNat 160 ≤ mu u349) ∧
  ∀ u351 : CW, u351 = nA u349 102 (Int.toNat 160) →
  (hP 237 (tg u351 x0) = true) ∧
  ∀ u353 : CW, u353 = pR u351 237 x0 (cz u349 + 1) →
  ((0 ≤ (160 : Int) ∧ (160 : Int) ≤ 1000000) ∧ cz u353 + 1 ≤ mz u353 ∧ cu u353 + Int.toNat 160 ≤ mu u353) ∧
  ∀ u355 : CW, u355 = nA u353 102 (Int.toNat 160) →
  (hP 238 (tg u355 x0) = true) ∧
  ∀ u357 : CW, u357 = pR u355 238 x0 (cz u353 + 1) →
  ((0 ≤ (160 : Int) ∧ (160 : Int) ≤ 1000000) ∧ cz u357 + 1 ≤ mz u357 ∧ cu u357 + Int.toNat 160 ≤ mu u357) ∧
  ∀ u359 : CW, u359 = nA u357 103 (Int.toNat 160) →
  (hP 239 (tg u359 x0) = true) ∧
  ∀ u361 : CW, u361 = pR u359 239 x0 (cz u357 + 1) →
  ((0 ≤ (160 : Int) ∧ (160 : Int) ≤ 1000000) ∧ cz u361 + 1 ≤ mz u361 ∧ cu u361 + Int.toNat 160 ≤ mu u361) ∧
  ∀ u363 : CW, u363 = nA u361 102 (Int.toNat 160) →
  (hP 240 (tg u363 x0) = true) ∧
  ∀ u365 : CW, u365 = pR u363 240 x0 (cz u361 + 1) →
  ((0 ≤ (640 : Int) ∧ (640 : Int) ≤ 1000000) ∧ cz u365 + 1 ≤ mz u365 ∧ cu u365 + Int.toNat 640 ≤ mu u365) ∧
  ∀ u367 : CW, u367 = nA u365 102 (Int.toNat 640) →
  (hP 241 (tg u367 x0) = true) ∧
  ∀ u369 : CW, u369 = pR u367 241 x0 (cz u365 + 1) →
  ((0 ≤ (300 : Int) ∧ (300 : Int) ≤ 1000000) ∧ cz u369 + 1 ≤ mz u369 ∧ cu u369 + Int.toNat 300 ≤ mu u369) ∧
  ∀ u371 : CW, u371 = nA u369 102 (Int.toNat 300) →
  (hP 242 (tg u371 x0) = true) ∧
  ∀ u373 : CW, u373 = pR u371 242 x0 (cz u369 + 1) →
  ((0 ≤ (300 : Int) ∧ (300 : Int) ≤ 1000000) ∧ cz u373 + 1 ≤ mz u373 ∧ cu u373 + Int.toNat 300 ≤ mu u373) ∧
  ∀ u375 : CW, u375 = nA u373 102 (Int.toNat 300) →
  (hP 243 (tg u375 x0) = true) ∧
  ∀ u377 : CW, u377 = pR u375 243 x0 (cz u373 + 1) →
  ((0 ≤ (3 : Int) ∧ (3 : Int) ≤ 1000000) ∧ cz u377 + 1 ≤ mz u377 ∧ cu u377 + Int.toNat 3 ≤ mu u377) ∧
  ∀ u379 : CW, u379 = nA u377 102 (Int.toNat 3) →
  (hP 244 (tg u379 x0) = true) ∧
  ∀ u381 : CW, u381 = pR u379 244 x0 (cz u377 + 1) →
  ((0 ≤ (8 : Int) ∧ (8 : Int) ≤ 1000000) ∧ cz u381 + 1 ≤ mz u381 ∧ cu u381 + Int.toNat 8 ≤ mu u381) ∧
  ∀ u383 : CW, u383 = nA u381 102 (Int.toNat 8) →
  (hP 245 (tg u383 x0) = true) ∧
  ∀ u385 : CW, u385 = pR u383 245 x0 (cz u381 + 1) →
  ((0 ≤ (32 : Int) ∧ (32 : Int) ≤ 1000000) ∧ cz u385 + 1 ≤ mz u385 ∧ cu u385 + Int.toNat 32 ≤ mu u385) ∧
  ∀ u387 : CW, u387 = nA u385 102 (Int.toNat 32) →
  (hP 254 (tg u387 x0) = true) ∧
  ∀ u389 : CW, u389 = pR u387 254 x0 (cz u385 + 1) →
  ((0 ≤ (8 : Int) ∧ (8 : Int) ≤ 1000000) ∧ cz u389 + 1 ≤ mz u389 ∧ cu u389 + Int.toNat 8 ≤ mu u389) ∧
  ∀ u391 : CW, u391 = nA u389 102 (Int.toNat 8) →
  (hP 256 (tg u391 x0) = true) ∧
  ∀ u393 : CW, u393 = pR u391 256 x0 (cz u389 + 1) →
  Q u393
/-! LetterPost$Wrong.<init>(II)V -/
def pC_X2_init_0 (p : Nat) (call : Nat → List ZA → CW → (ZRes → CW → Prop) → Prop) (Q : CW → Prop) (x0 : Nat) (x1 : Int) (x2 : Int) (w : CW) : Prop :=
  (¬ x0 = 0) ∧
  call 205 [ar x0, ar 0, ar 0, ai 0, ai 0] w (zqV (fun u1 =>
    (hP 35 (tg u1 x0) = true) ∧
    ∀ u3 : CW, u3 = pI u1 35 x0 x1 →
    (hP 36 (tg u3 x0) = true) ∧
    ∀ u5 : CW, u5 = pI u3 36 x0 x2 →
    Q u5) zno)
/-! LetterPost$Kind.<init>(IJLLetterPost$Kind;)V -/
def pC_X3_init_0 (p : Nat) (call : Nat → List ZA → CW → (ZRes → CW → Prop) → Prop) (Q : CW → Prop) (x0 : Nat) (x1 : Int) (x2 : Int) (x4 : Nat) (w : CW) : Prop :=
  (¬ x0 = 0) ∧
  ((0 ≤ (4 : Int) ∧ (4 : Int) ≤ 1000000) ∧ cz w + 1 ≤ mz w ∧ cu w + Int.toNat 4 ≤ mu w) ∧
  ∀ u3 : CW, u3 = nA w 102 (Int.toNat 4) →
  (hP 41 (tg u3 x0) = true) ∧
  ∀ u5 : CW, u5 = pR u3 41 x0 (cz w + 1) →
  (hP 37 (tg u5 x0) = true) ∧
  ∀ u7 : CW, u7 = pI u5 37 x0 x1 →
  (hP 38 (tg u7 x0) = true) ∧
  ∀ u9 : CW, u9 = pI u7 38 x0 x2 →
  (hP 39 (tg u9 x0) = true) ∧
  ∀ u11 : CW, u11 = pR u9 39 x0 x4 →
  Q u11
/-! LetterPost$Kind.is(LLetterPost$Kind;)Z -/
def pC_X3_is_19 (p : Nat) (call : Nat → List ZA → CW → (ZRes → CW → Prop) → Prop) (Q : Int → CW → Prop) (x2 : Nat) (w : CW) : Prop :=
  ∀ v3 : Int, v3 = (if ¬ (x2 = 0) then 1 else 0) →
  Q v3 w
def pC_X3_is_2 (p : Nat) (call : Nat → List ZA → CW → (ZRes → CW → Prop) → Prop) (Q : Int → CW → Prop) (x1 : Nat) (x2 : Nat) (w : CW) : Prop :=
  ∀ I2 : Nat → CW → Prop, (∀ (x2 : Nat) (w : CW), (
    (¬ (x2 = 0) ∧ (¬ (x2 = x1)) →
      (hF 39 (tg w x2) = true) ∧
      ∀ x2_2 : Nat, x2_2 = fR w 39 x2 →
      I2 x2_2 w) ∧
    (¬ (¬ (x2 = 0) ∧ (¬ (x2 = x1))) →
      pC_X3_is_19 p call Q x2 w)) → I2 x2 w) → I2 x2 w
def pC_X3_is_0 (p : Nat) (call : Nat → List ZA → CW → (ZRes → CW → Prop) → Prop) (Q : Int → CW → Prop) (x0 : Nat) (x1 : Nat) (w : CW) : Prop :=
  pC_X3_is_2 p call Q x1 x0 w
/-! LetterPost$Function.<init>(LLetterPost;IJ)V -/
def pC_X4_init_0 (p : Nat) (call : Nat → List ZA → CW → (ZRes → CW → Prop) → Prop) (Q : CW → Prop) (x0 : Nat) (x1 : Nat) (x2 : Int) (x3 : Int) (w : CW) : Prop :=
  (hP 55 (tg w x0) = true) ∧
  ∀ u1 : CW, u1 = pR w 55 x0 x1 →
  (¬ x0 = 0) ∧
  ((0 ≤ (3 : Int) ∧ (3 : Int) ≤ 1000000) ∧ cz u1 + 1 ≤ mz u1 ∧ cu u1 + Int.toNat 3 ≤ mu u1) ∧
  ∀ u5 : CW, u5 = nA u1 102 (Int.toNat 3) →
  (hP 45 (tg u5 x0) = true) ∧
  ∀ u7 : CW, u7 = pR u5 45 x0 (cz u1 + 1) →
  ((0 ≤ (16 : Int) ∧ (16 : Int) ≤ 1000000) ∧ cz u7 + 1 ≤ mz u7 ∧ cu u7 + Int.toNat 16 ≤ mu u7) ∧
  ∀ u9 : CW, u9 = nA u7 117 (Int.toNat 16) →
  (hP 47 (tg u9 x0) = true) ∧
  ∀ u11 : CW, u11 = pR u9 47 x0 (cz u7 + 1) →
  ((0 ≤ (900 : Int) ∧ (900 : Int) ≤ 1000000) ∧ cz u11 + 1 ≤ mz u11 ∧ cu u11 + Int.toNat 900 ≤ mu u11) ∧
  ∀ u13 : CW, u13 = nA u11 115 (Int.toNat 900) →
  (hP 50 (tg u13 x0) = true) ∧
  ∀ u15 : CW, u15 = pR u13 50 x0 (cz u11 + 1) →
  (hP 43 (tg u15 x0) = true) ∧
  ∀ u17 : CW, u17 = pI u15 43 x0 x2 →
  (hP 44 (tg u17 x0) = true) ∧
  ∀ u19 : CW, u19 = pI u17 44 x0 x3 →
  Q u19
/-! LetterPost$Function.count(I)I -/
def pC_X4_count_30 (p : Nat) (call : Nat → List ZA → CW → (ZRes → CW → Prop) → Prop) (Q : Int → CW → Prop) (x2 : Int) (w : CW) : Prop :=
  Q x2 w
def pC_X4_count_4 (p : Nat) (call : Nat → List ZA → CW → (ZRes → CW → Prop) → Prop) (Q : Int → CW → Prop) (x0 : Nat) (x1 : Int) (x2 : Int) (x3 : Int) (w : CW) : Prop :=
  ∀ I4 : Int → Int → CW → Prop, (∀ (x2 : Int) (x3 : Int) (w : CW), (
    (x1 ≤ x3 →
      pC_X4_count_30 p call Q x2 w) ∧
    (¬ (x1 ≤ x3) →
      (hF 47 (tg w x0) = true) ∧
      ((111 ≤ tg w (fR w 47 x0) ∧ tg w (fR w 47 x0) ≤ 119) ∧ 0 ≤ x3 ∧ x3 < ln w (fR w 47 x0)) ∧
      (hF 58 (tg w (aR w (fR w 47 x0) x3)) = true) ∧
      call 43 [ar (fR w 58 (aR w (fR w 47 x0) x3))] w (zqI (fun v6 u5 =>
        ∀ x2_7 : Int, x2_7 = w32 (x2 + v6) →
        ∀ x3_8 : Int, x3_8 = w32 (x3 + 1) →
        I4 x2_7 x3_8 u5) zno))) → I4 x2 x3 w) → I4 x2 x3 w
def pC_X4_count_0 (p : Nat) (call : Nat → List ZA → CW → (ZRes → CW → Prop) → Prop) (Q : Int → CW → Prop) (x0 : Nat) (x1 : Int) (w : CW) : Prop :=
  pC_X4_count_4 p call Q x0 x1 0 0 w
/-! LetterPost$Function.lay()V -/
def pC_X4_lay_166 (p : Nat) (call : Nat → List ZA → CW → (ZRes → CW → Prop) → Prop) (Q : CW → Prop) (w : CW) : Prop :=
  Q w
def pC_X4_lay_160 (p : Nat) (call : Nat → List ZA → CW → (ZRes → CW → Prop) → Prop) (Q : CW → Prop) (I19 : Int → Int → CW → Prop) (x0 : Nat) (x1 : Int) (x2 : Int) (w : CW) : Prop :=
  ∀ x2_17 : Int, x2_17 = w32 (x2 + 1) →
  I19 x1 x2_17 w
def pC_X4_lay_143 (p : Nat) (call : Nat → List ZA → CW → (ZRes → CW → Prop) → Prop) (Q : CW → Prop) (I19 : Int → Int → CW → Prop) (I46 : Int → Int → CW → Prop) (x0 : Nat) (x1 : Int) (x2 : Int) (x3 : Nat) (x4 : Int) (x5 : Int) (x6 : Nat) (w : CW) : Prop :=
  (hF 49 (tg w x0) = true) ∧
  ((111 ≤ tg w (fR w 49 x0) ∧ tg w (fR w 49 x0) ≤ 119) ∧ 0 ≤ x1 ∧ x1 < ln w (fR w 49 x0)) ∧
  (x6 = 0 ∨ zst (tg w (fR w 49 x0)) (tg w x6) = true) ∧
  ∀ u27 : CW, u27 = qR w (fR w 49 x0) x1 x6 →
  ∀ x1_30 : Int, x1_30 = w32 (x1 + 1) →
  ∀ x5_31 : Int, x5_31 = w32 (x5 + 1) →
  I46 x1_30 x5_31 u27
def pC_X4_lay_79 (p : Nat) (call : Nat → List ZA → CW → (ZRes → CW → Prop) → Prop) (Q : CW → Prop) (I19 : Int → Int → CW → Prop) (I46 : Int → Int → CW → Prop) (x0 : Nat) (x1 : Int) (x2 : Int) (x3 : Nat) (x4 : Int) (x5 : Int) (x6 : Nat) (x7 : Int) (x8 : Int) (x9 : Int) (w : CW) : Prop :=
  ∀ I79 : Int → Int → Int → CW → Prop, (∀ (x7 : Int) (x8 : Int) (x9 : Int) (w : CW), (
    (hF 46 (tg w x0) = true) ∧
    ((fI w 46 x0) ≤ x9 →
      pC_X4_lay_143 p call Q I19 I46 x0 x1 x2 x3 x4 x5 x6 w) ∧
    (¬ ((fI w 46 x0) ≤ x9) →
      ((111 ≤ tg w x3 ∧ tg w x3 ≤ 119) ∧ 0 ≤ x9 ∧ x9 < ln w x3) ∧
      call (vm0 (tg w (aR w x3 x9))) [ar (aR w x3 x9)] w (zqI (fun v34 u33 =>
        (¬ v34 = 0) ∧
        ∀ x7_36 : Int, x7_36 = i_div x7 v34 →
        ((111 ≤ tg u33 x3 ∧ tg u33 x3 ≤ 119) ∧ 0 ≤ x9 ∧ x9 < ln u33 x3) ∧
        (¬ x7_36 = 0) ∧
        (hF 45 (tg u33 x0) = true) ∧
        (tg u33 (fR u33 45 x0) = 102 ∧ 0 ≤ x9 ∧ x9 < ln u33 (fR u33 45 x0)) ∧
        (tg u33 x0 = 4) ∧
        call 87 [ar x0, ar 0, ar 0, ai x9, ai (aN u33 (fR u33 45 x0) x9)] u33 (zqR (fun v42 u41 =>
          call (vm10 (tg u41 (aR u33 x3 x9))) [ar (aR u33 x3 x9), ai (i_div x8 x7_36), ar v42, ar x0, ar x6] u41 (zqV (fun u43 =>
            (¬ x7_36 = 0) ∧
            ∀ x8_46 : Int, x8_46 = i_rem x8 x7_36 →
            ∀ x9_47 : Int, x9_47 = w32 (x9 + 1) →
            I79 x7_36 x8_46 x9_47 u43) zno)) zno)) zno))) → I79 x7 x8 x9 w) → I79 x7 x8 x9 w
def pC_X4_lay_46 (p : Nat) (call : Nat → List ZA → CW → (ZRes → CW → Prop) → Prop) (Q : CW → Prop) (I19 : Int → Int → CW → Prop) (x0 : Nat) (x1 : Int) (x2 : Int) (x3 : Nat) (x4 : Int) (x5 : Int) (w : CW) : Prop :=
  ∀ I46 : Int → Int → CW → Prop, (∀ (x1 : Int) (x5 : Int) (w : CW), (
    (x4 ≤ x5 →
      pC_X4_lay_160 p call Q I19 x0 x1 x2 w) ∧
    (¬ (x4 ≤ x5) →
      (cz w + 1 ≤ mz w ∧ cu w + 5 ≤ mu w) ∧
      ∀ u18 : CW, u18 = nO w 14 5 →
      (hF 47 (tg u18 x0) = true) ∧
      ((111 ≤ tg u18 (fR u18 47 x0) ∧ tg u18 (fR u18 47 x0) ≤ 119) ∧ 0 ≤ x2 ∧ x2 < ln u18 (fR u18 47 x0)) ∧
      call 124 [ar (cz w + 1), ar (aR u18 (fR u18 47 x0) x2)] u18 (zqV (fun u22 =>
        pC_X4_lay_79 p call Q I19 I46 x0 x1 x2 x3 x4 x5 (cz w + 1) x4 x5 0 u22) zno))) → I46 x1 x5 w) → I46 x1 x5 w
def pC_X4_lay_19 (p : Nat) (call : Nat → List ZA → CW → (ZRes → CW → Prop) → Prop) (Q : CW → Prop) (x0 : Nat) (x1 : Int) (x2 : Int) (w : CW) : Prop :=
  ∀ I19 : Int → Int → CW → Prop, (∀ (x1 : Int) (x2 : Int) (w : CW), (
    (hF 48 (tg w x0) = true) ∧
    ((fI w 48 x0) ≤ x2 →
      pC_X4_lay_166 p call Q w) ∧
    (¬ ((fI w 48 x0) ≤ x2) →
      (hF 47 (tg w x0) = true) ∧
      ((111 ≤ tg w (fR w 47 x0) ∧ tg w (fR w 47 x0) ≤ 119) ∧ 0 ≤ x2 ∧ x2 < ln w (fR w 47 x0)) ∧
      (hF 58 (tg w (aR w (fR w 47 x0) x2)) = true) ∧
      ∀ x3_13 : Nat, x3_13 = fR w 58 (aR w (fR w 47 x0) x2) →
      call 43 [ar x3_13] w (zqI (fun v15 u14 =>
        pC_X4_lay_46 p call Q I19 x0 x1 x2 x3_13 v15 0 u14) zno))) → I19 x1 x2 w) → I19 x1 x2 w
def pC_X4_lay_0 (p : Nat) (call : Nat → List ZA → CW → (ZRes → CW → Prop) → Prop) (Q : CW → Prop) (x0 : Nat) (w : CW) : Prop :=
  (hF 48 (tg w x0) = true) ∧
  (tg w x0 = 4) ∧
  call 85 [ar x0, ai (fI w 48 x0)] w (zqI (fun v3 u2 =>
    ((0 ≤ v3 ∧ v3 ≤ 1000000) ∧ cz u2 + 1 ≤ mz u2 ∧ cu u2 + Int.toNat v3 ≤ mu u2) ∧
    ∀ u4 : CW, u4 = nA u2 116 (Int.toNat v3) →
    (hP 49 (tg u4 x0) = true) ∧
    ∀ u6 : CW, u6 = pR u4 49 x0 (cz u2 + 1) →
    pC_X4_lay_19 p call Q x0 0 0 u6) zno)
/-! LetterPost$Function.place(LLetterPost$Place;LLetterPost$Kind;II)LLetterPost$Place; -/
def pC_X4_place_57 (p : Nat) (call : Nat → List ZA → CW → (ZRes → CW → Prop) → Prop) (Q : Nat → CW → Prop) (x0 : Nat) (x1 : Nat) (x2 : Nat) (x3 : Int) (x4 : Int) (w : CW) : Prop :=
  (hF 50 (tg w x0) = true) ∧
  (hF 51 (tg w x0) = true) ∧
  (cz w + 1 ≤ mz w ∧ cu w + 6 ≤ mu w) ∧
  ∀ u5 : CW, u5 = nO w 15 6 →
  (hF 51 (tg u5 x0) = true) ∧
  call 129 [ar (cz w + 1), ar x1, ar x2, ai x3, ai x4, ai (fI u5 51 x0)] u5 (zqV (fun u8 =>
    ((111 ≤ tg u8 (fR w 50 x0) ∧ tg u8 (fR w 50 x0) ≤ 119) ∧ 0 ≤ (fI w 51 x0) ∧ (fI w 51 x0) < ln u8 (fR w 50 x0)) ∧
    ((cz w + 1) = 0 ∨ zst (tg u8 (fR w 50 x0)) (tg u8 (cz w + 1)) = true) ∧
    ∀ u10 : CW, u10 = qR u8 (fR w 50 x0) (fI w 51 x0) (cz w + 1) →
    (hF 51 (tg u10 x0) = true) ∧
    (hP 51 (tg u10 x0) = true) ∧
    ∀ u14 : CW, u14 = pI u10 51 x0 (w32 ((fI u10 51 x0) + 1)) →
    (hF 50 (tg u14 x0) = true) ∧
    (hF 51 (tg u14 x0) = true) ∧
    ((111 ≤ tg u14 (fR u14 50 x0) ∧ tg u14 (fR u14 50 x0) ≤ 119) ∧ 0 ≤ (w32 ((fI u14 51 x0) - 1)) ∧ (w32 ((fI u14 51 x0) - 1)) < ln u14 (fR u14 50 x0)) ∧
    Q (aR u14 (fR u14 50 x0) (w32 ((fI u14 51 x0) - 1))) u14) zno)
def pC_X4_place_48 (p : Nat) (call : Nat → List ZA → CW → (ZRes → CW → Prop) → Prop) (Q : Nat → CW → Prop) (x6 : Nat) (w : CW) : Prop :=
  Q x6 w
def pC_X4_place_51 (p : Nat) (call : Nat → List ZA → CW → (ZRes → CW → Prop) → Prop) (Q : Nat → CW → Prop) (I3 : Int → CW → Prop) (x0 : Nat) (x1 : Nat) (x2 : Nat) (x3 : Int) (x4 : Int) (x5 : Int) (w : CW) : Prop :=
  ∀ x5_24 : Int, x5_24 = w32 (x5 + 1) →
  I3 x5_24 w
def pC_X4_place_3 (p : Nat) (call : Nat → List ZA → CW → (ZRes → CW → Prop) → Prop) (Q : Nat → CW → Prop) (x0 : Nat) (x1 : Nat) (x2 : Nat) (x3 : Int) (x4 : Int) (x5 : Int) (w : CW) : Prop :=
  ∀ I3 : Int → CW → Prop, (∀ (x5 : Int) (w : CW), (
    (hF 51 (tg w x0) = true) ∧
    ((fI w 51 x0) ≤ x5 →
      pC_X4_place_57 p call Q x0 x1 x2 x3 x4 w) ∧
    (¬ ((fI w 51 x0) ≤ x5) →
      (hF 50 (tg w x0) = true) ∧
      ((111 ≤ tg w (fR w 50 x0) ∧ tg w (fR w 50 x0) ≤ 119) ∧ 0 ≤ x5 ∧ x5 < ln w (fR w 50 x0)) ∧
      ∀ x6_21 : Nat, x6_21 = aR w (fR w 50 x0) x5 →
      (hF 85 (tg w x6_21) = true) ∧
      (((fR w 85 x6_21) = x1 → (hF 86 (tg w x6_21) = true) ∧ ((fR w 86 x6_21) = x2 → (hF 87 (tg w x6_21) = true)))) ∧
      (((fR w 85 x6_21) = x1) ∧ (((fR w 86 x6_21) = x2) ∧ ((fI w 87 x6_21) = x3)) →
        pC_X4_place_48 p call Q x6_21 w) ∧
      (¬ (((fR w 85 x6_21) = x1) ∧ (((fR w 86 x6_21) = x2) ∧ ((fI w 87 x6_21) = x3))) →
        pC_X4_place_51 p call Q I3 x0 x1 x2 x3 x4 x5 w))) → I3 x5 w) → I3 x5 w
def pC_X4_place_0 (p : Nat) (call : Nat → List ZA → CW → (ZRes → CW → Prop) → Prop) (Q : Nat → CW → Prop) (x0 : Nat) (x1 : Nat) (x2 : Nat) (x3 : Int) (x4 : Int) (w : CW) : Prop :=
  pC_X4_place_3 p call Q x0 x1 x2 x3 x4 0 w
/-! LetterPost$Function.remake(I)V -/
def pC_X4_remake_0 (p : Nat) (call : Nat → List ZA → CW → (ZRes → CW → Prop) → Prop) (Q : CW → Prop) (X : Nat → CW → Prop) (x0 : Nat) (x1 : Int) (w : CW) : Prop :=
  (tg w x0 = 4) ∧
  call 89 [ar x0, ai x1, ai 0] w (zqR (fun v2 u1 =>
    (hP 52 (tg u1 x0) = true) ∧
    ∀ u3 : CW, u3 = pR u1 52 x0 v2 →
    (hP 53 (tg u3 x0) = true) ∧
    ∀ u5 : CW, u5 = pI u3 53 x0 x1 →
    (hF 55 (tg u5 x0) = true) ∧
    (hF 1 (tg u5 (fR u5 55 x0)) = true) ∧
    (hP 54 (tg u5 x0) = true) ∧
    ∀ u9 : CW, u9 = pI u5 54 x0 (fI u5 1 (fR u5 55 x0)) →
    Q u9) (fun x11 u12 =>
    X x11 u12))
/-! LetterPost$Function.make(IZ)LLetterPost$Node; -/
def pC_X4_make_70 (p : Nat) (call : Nat → List ZA → CW → (ZRes → CW → Prop) → Prop) (Q : Nat → CW → Prop) (X : Nat → CW → Prop) (x0 : Nat) (x1 : Int) (x3 : Nat) (x4 : Int) (w : CW) : Prop :=
  (cz w + 1 ≤ mz w ∧ cu w + 7 ≤ mu w) ∧
  ∀ u10 : CW, u10 = nO w 16 7 →
  (hF 55 (tg u10 x0) = true) ∧
  call 132 [ar (cz w + 1), ar (fR u10 55 x0), ar x0, ai x1] u10 (zqV (fun u13 =>
    (tg u13 (cz w + 1) = 16) ∧
    call 133 [ar (cz w + 1), ar x3, ai x4] u13 (zqR (fun v16 u15 =>
      Q v16 u15) (fun x17 u18 =>
      X x17 u18))) zno)
def pC_X4_make_64 (p : Nat) (call : Nat → List ZA → CW → (ZRes → CW → Prop) → Prop) (Q : Nat → CW → Prop) (X : Nat → CW → Prop) (I26 : Int → Int → CW → Prop) (x0 : Nat) (x1 : Int) (x2 : Int) (x3 : Nat) (x4 : Int) (x5 : Nat) (x6 : Int) (x7 : Int) (w : CW) : Prop :=
  ∀ x7_27 : Int, x7_27 = w32 (x7 + 1) →
  I26 x4 x7_27 w
def pC_X4_make_55 (p : Nat) (call : Nat → List ZA → CW → (ZRes → CW → Prop) → Prop) (Q : Nat → CW → Prop) (X : Nat → CW → Prop) (I26 : Int → Int → CW → Prop) (x0 : Nat) (x1 : Int) (x2 : Int) (x3 : Nat) (x4 : Int) (x5 : Nat) (x6 : Int) (x7 : Int) (x8 : Nat) (w : CW) : Prop :=
  ((111 ≤ tg w x3 ∧ tg w x3 ≤ 119) ∧ 0 ≤ x4 ∧ x4 < ln w x3) ∧
  (x8 = 0 ∨ zst (tg w x3) (tg w x8) = true) ∧
  ∀ u23 : CW, u23 = qR w x3 x4 x8 →
  ∀ x4_26 : Int, x4_26 = w32 (x4 + 1) →
  pC_X4_make_64 p call Q X I26 x0 x1 x2 x3 x4_26 x5 x6 x7 u23
def pC_X4_make_26 (p : Nat) (call : Nat → List ZA → CW → (ZRes → CW → Prop) → Prop) (Q : Nat → CW → Prop) (X : Nat → CW → Prop) (x0 : Nat) (x1 : Int) (x2 : Int) (x3 : Nat) (x4 : Int) (x5 : Nat) (x6 : Int) (x7 : Int) (w : CW) : Prop :=
  ∀ I26 : Int → Int → CW → Prop, (∀ (x4 : Int) (x7 : Int) (w : CW), (
    (x6 ≤ x7 →
      pC_X4_make_70 p call Q X x0 x1 x3 x4 w) ∧
    (¬ (x6 ≤ x7) →
      ((111 ≤ tg w x5 ∧ tg w x5 ≤ 119) ∧ 0 ≤ x7 ∧ x7 < ln w x5) ∧
      ∀ x8_21 : Nat, x8_21 = aR w x5 x7 →
      ((¬ (x2 = 0) → (hF 80 (tg w x8_21) = true) ∧ (hF 59 (tg w (fR w 80 x8_21)) = true))) ∧
      ((x2 = 0) ∨ ((fR w 59 (fR w 80 x8_21)) = 0) →
        pC_X4_make_55 p call Q X I26 x0 x1 x2 x3 x4 x5 x6 x7 x8_21 w) ∧
      (¬ ((x2 = 0) ∨ ((fR w 59 (fR w 80 x8_21)) = 0)) →
        pC_X4_make_64 p call Q X I26 x0 x1 x2 x3 x4 x5 x6 x7 w))) → I26 x4 x7 w) → I26 x4 x7 w
def pC_X4_make_0 (p : Nat) (call : Nat → List ZA → CW → (ZRes → CW → Prop) → Prop) (Q : Nat → CW → Prop) (X : Nat → CW → Prop) (x0 : Nat) (x1 : Int) (x2 : Int) (w : CW) : Prop :=
  (hF 49 (tg w x0) = true) ∧
  (101 ≤ tg w (fR w 49 x0) ∧ tg w (fR w 49 x0) ≤ 119 ∧ (tg w (fR w 49 x0) < 107 ∨ 111 ≤ tg w (fR w 49 x0))) ∧
  ((0 ≤ ((ln w (fR w 49 x0) : Nat) : Int) ∧ ((ln w (fR w 49 x0) : Nat) : Int) ≤ 1000000) ∧ cz w + 1 ≤ mz w ∧ cu w + Int.toNat ((ln w (fR w 49 x0) : Nat) : Int) ≤ mu w) ∧
  ∀ u3 : CW, u3 = nA w 116 (Int.toNat ((ln w (fR w 49 x0) : Nat) : Int)) →
  (hF 49 (tg u3 x0) = true) ∧
  ∀ x5_6 : Nat, x5_6 = fR u3 49 x0 →
  (101 ≤ tg u3 x5_6 ∧ tg u3 x5_6 ≤ 119 ∧ (tg u3 x5_6 < 107 ∨ 111 ≤ tg u3 x5_6)) ∧
  ∀ x6_8 : Int, x6_8 = ((ln u3 x5_6 : Nat) : Int) →
  pC_X4_make_26 p call Q X x0 x1 x2 (cz w + 1) 0 x5_6 x6_8 0 u3
/-! LetterPost$Rule.<init>(II)V -/
def pC_X5_init_0 (p : Nat) (call : Nat → List ZA → CW → (ZRes → CW → Prop) → Prop) (Q : CW → Prop) (x0 : Nat) (x1 : Int) (x2 : Int) (w : CW) : Prop :=
  (¬ x0 = 0) ∧
  (hP 61 (tg w x0) = true) ∧
  ∀ u3 : CW, u3 = pI w 61 x0 (-1) →
  ((0 ≤ (8 : Int) ∧ (8 : Int) ≤ 1000000) ∧ cz u3 + 1 ≤ mz u3 ∧ cu u3 + Int.toNat 8 ≤ mu u3) ∧
  ∀ u5 : CW, u5 = nA u3 102 (Int.toNat 8) →
  (hP 67 (tg u5 x0) = true) ∧
  ∀ u7 : CW, u7 = pR u5 67 x0 (cz u3 + 1) →
  (hP 56 (tg u7 x0) = true) ∧
  ∀ u9 : CW, u9 = pI u7 56 x0 x1 →
  (hP 57 (tg u9 x0) = true) ∧
  ∀ u11 : CW, u11 = pI u9 57 x0 x2 →
  Q u11
/-! LetterPost$Pattern.<init>()V -/
def pC_X6_init_0 (p : Nat) (call : Nat → List ZA → CW → (ZRes → CW → Prop) → Prop) (Q : CW → Prop) (x0 : Nat) (w : CW) : Prop :=
  (¬ x0 = 0) ∧
  (hP 68 (tg w x0) = true) ∧
  ∀ u3 : CW, u3 = pI w 68 x0 (-1) →
  Q u3
/-! LetterPost$Pattern.ways()I -/
def pC_X6_ways_0 (p : Nat) (call : Nat → List ZA → CW → (ZRes → CW → Prop) → Prop) (Q : Int → CW → Prop) (w : CW) : Prop :=
  Q 1 w
/-! LetterPost$Pattern.row(ILLetterPost$Place;LLetterPost$Function;LLetterPost$Row;)V -/
def pC_X6_row_18 (p : Nat) (call : Nat → List ZA → CW → (ZRes → CW → Prop) → Prop) (Q : CW → Prop) (w : CW) : Prop :=
  Q w
def pC_X6_row_0 (p : Nat) (call : Nat → List ZA → CW → (ZRes → CW → Prop) → Prop) (Q : CW → Prop) (x0 : Nat) (x2 : Nat) (x4 : Nat) (w : CW) : Prop :=
  (hF 68 (tg w x0) = true) ∧
  ((fI w 68 x0) < 0 →
    pC_X6_row_18 p call Q w) ∧
  (¬ ((fI w 68 x0) < 0) →
    (hF 84 (tg w x4) = true) ∧
    (hF 68 (tg w x0) = true) ∧
    ((111 ≤ tg w (fR w 84 x4) ∧ tg w (fR w 84 x4) ≤ 119) ∧ 0 ≤ (fI w 68 x0) ∧ (fI w 68 x0) < ln w (fR w 84 x4)) ∧
    (x2 = 0 ∨ zst (tg w (fR w 84 x4)) (tg w x2) = true) ∧
    ∀ u5 : CW, u5 = qR w (fR w 84 x4) (fI w 68 x0) x2 →
    pC_X6_row_18 p call Q u5)
/-! LetterPost$Pattern.fits(LLetterPost$Value;[LLetterPost$Value;)Z -/
def pC_X6_fits_25 (p : Nat) (call : Nat → List ZA → CW → (ZRes → CW → Prop) → Prop) (Q : Int → CW → Prop) (w : CW) : Prop :=
  Q 1 w
def pC_X6_fits_0 (p : Nat) (call : Nat → List ZA → CW → (ZRes → CW → Prop) → Prop) (Q : Int → CW → Prop) (x0 : Nat) (x1 : Nat) (x2 : Nat) (w : CW) : Prop :=
  call (vm11 (tg w x0)) [ar x0, ar x1, ar x2] w (zqI (fun v2 u1 =>
    (v2 = 0 →
      Q 0 u1) ∧
    (¬ (v2 = 0) →
      (hF 68 (tg u1 x0) = true) ∧
      ((fI u1 68 x0) < 0 →
        pC_X6_fits_25 p call Q u1) ∧
      (¬ ((fI u1 68 x0) < 0) →
        (hF 68 (tg u1 x0) = true) ∧
        ((111 ≤ tg u1 x2 ∧ tg u1 x2 ≤ 119) ∧ 0 ≤ (fI u1 68 x0) ∧ (fI u1 68 x0) < ln u1 x2) ∧
        (x1 = 0 ∨ zst (tg u1 x2) (tg u1 x1) = true) ∧
        ∀ u7 : CW, u7 = qR u1 x2 (fI u1 68 x0) x1 →
        pC_X6_fits_25 p call Q u7))) zno)
/-! LetterPost$Any.<init>()V -/
def pC_X7_init_0 (p : Nat) (call : Nat → List ZA → CW → (ZRes → CW → Prop) → Prop) (Q : CW → Prop) (x0 : Nat) (w : CW) : Prop :=
  (¬ x0 = 0) ∧
  call 91 [ar x0] w (zqV (fun u1 =>
    Q u1) zno)
/-! LetterPost$Any.holds(LLetterPost$Value;[LLetterPost$Value;)Z -/
def pC_X7_holds_0 (p : Nat) (call : Nat → List ZA → CW → (ZRes → CW → Prop) → Prop) (Q : Int → CW → Prop) (w : CW) : Prop :=
  Q 1 w
/-! LetterPost$Test.<init>()V -/
def pC_X8_init_0 (p : Nat) (call : Nat → List ZA → CW → (ZRes → CW → Prop) → Prop) (Q : CW → Prop) (x0 : Nat) (w : CW) : Prop :=
  (¬ x0 = 0) ∧
  call 91 [ar x0] w (zqV (fun u1 =>
    Q u1) zno)
/-! LetterPost$Test.row(ILLetterPost$Place;LLetterPost$Function;LLetterPost$Row;)V -/
def pC_X8_row_0 (p : Nat) (call : Nat → List ZA → CW → (ZRes → CW → Prop) → Prop) (Q : CW → Prop) (x0 : Nat) (x1 : Int) (x2 : Nat) (x3 : Nat) (x4 : Nat) (w : CW) : Prop :=
  (tg w x4 = 14) ∧
  call 125 [ar x4, ar x2, ar x0] w (zqV (fun u1 =>
    (1 ≤ tg u1 x0 ∧ tg u1 x0 ≤ 35) ∧
    call 93 [ar x0, ai x1, ar x2, ar x3, ar x4] u1 (zqV (fun u3 =>
      Q u3) zno)) zno)
/-! LetterPost$Range.<init>(II)V -/
def pC_X9_init_0 (p : Nat) (call : Nat → List ZA → CW → (ZRes → CW → Prop) → Prop) (Q : CW → Prop) (x0 : Nat) (x1 : Int) (x2 : Int) (w : CW) : Prop :=
  (¬ x0 = 0) ∧
  call 97 [ar x0] w (zqV (fun u1 =>
    (hP 69 (tg u1 x0) = true) ∧
    ∀ u3 : CW, u3 = pI u1 69 x0 x1 →
    (hP 70 (tg u3 x0) = true) ∧
    ∀ u5 : CW, u5 = pI u3 70 x0 x2 →
    Q u5) zno)
/-! LetterPost$Range.by(LLetterPost$Known;LLetterPost$Place;)I -/
def pC_X9_by_0 (p : Nat) (call : Nat → List ZA → CW → (ZRes → CW → Prop) → Prop) (Q : Int → CW → Prop) (x0 : Nat) (x1 : Nat) (x2 : Nat) (w : CW) : Prop :=
  (hF 101 (tg w x1) = true) ∧
  (hF 89 (tg w x2) = true) ∧
  (tg w (fR w 101 x1) = 102 ∧ 0 ≤ (fI w 89 x2) ∧ (fI w 89 x2) < ln w (fR w 101 x1)) ∧
  ∀ x3_4 : Int, x3_4 = aN w (fR w 101 x1) (fI w 89 x2) →
  (hF 102 (tg w x1) = true) ∧
  (hF 89 (tg w x2) = true) ∧
  (tg w (fR w 102 x1) = 102 ∧ 0 ≤ (fI w 89 x2) ∧ (fI w 89 x2) < ln w (fR w 102 x1)) ∧
  ∀ x4_8 : Int, x4_8 = aN w (fR w 102 x1) (fI w 89 x2) →
  (hF 69 (tg w x0) = true) ∧
  ((x3_4 < (fI w 69 x0) → (hF 70 (tg w x0) = true) ∧ (¬ ((fI w 70 x0) < x3_4) → (hF 69 (tg w x0) = true))) ∧ (¬ (x3_4 < (fI w 69 x0)) → (hF 70 (tg w x0) = true) ∧ ((fI w 70 x0) < x4_8 → (hF 70 (tg w x0) = true) ∧ (¬ ((fI w 70 x0) < x3_4) → (hF 69 (tg w x0) = true))))) ∧
  ∀ v10 : Int, v10 = (if x3_4 < (fI w 69 x0) then (if (fI w 70 x0) < x3_4 then (-1) else (if (fI w 69 x0) ≤ x4_8 then 0 else (-1))) else (if (fI w 70 x0) < x4_8 then (if (fI w 70 x0) < x3_4 then (-1) else (if (fI w 69 x0) ≤ x4_8 then 0 else (-1))) else 1)) →
  Q v10 w
/-! LetterPost$Range.holds(LLetterPost$Value;[LLetterPost$Value;)Z -/
def pC_X9_holds_0 (p : Nat) (call : Nat → List ZA → CW → (ZRes → CW → Prop) → Prop) (Q : Int → CW → Prop) (x0 : Nat) (x1 : Nat) (w : CW) : Prop :=
  (x1 = 0 ∨ zca (tg w x1) "LetterPost$Whole" = true) ∧
  (hF 115 (tg w x1) = true) ∧
  (hF 69 (tg w x0) = true) ∧
  (hF 70 (tg w x0) = true) ∧
  call 1 [al (fI w 115 x1), al (fI w 69 x0), al (fI w 70 x0)] w (zqI (fun v6 u5 =>
    (v6 = 0 ∨ v6 = 1) ∧
    Q v6 u5) zno)
/-! LetterPost$Kinded.<init>(LLetterPost$Kind;[LLetterPost$Pattern;)V -/
def pC_X10_init_0 (p : Nat) (call : Nat → List ZA → CW → (ZRes → CW → Prop) → Prop) (Q : CW → Prop) (x0 : Nat) (x1 : Nat) (x2 : Nat) (w : CW) : Prop :=
  (¬ x0 = 0) ∧
  call 97 [ar x0] w (zqV (fun u1 =>
    (hP 71 (tg u1 x0) = true) ∧
    ∀ u3 : CW, u3 = pR u1 71 x0 x1 →
    (hP 72 (tg u3 x0) = true) ∧
    ∀ u5 : CW, u5 = pR u3 72 x0 x2 →
    Q u5) zno)
/-! LetterPost$Kinded.ways()I -/
def pC_X10_ways_0 (p : Nat) (call : Nat → List ZA → CW → (ZRes → CW → Prop) → Prop) (Q : Int → CW → Prop) (x0 : Nat) (w : CW) : Prop :=
  (hF 72 (tg w x0) = true) ∧
  call 43 [ar (fR w 72 x0)] w (zqI (fun v3 u2 =>
    Q v3 u2) zno)
/-! LetterPost$Kinded.row(ILLetterPost$Place;LLetterPost$Function;LLetterPost$Row;)V -/
def pC_X10_row_98 (p : Nat) (call : Nat → List ZA → CW → (ZRes → CW → Prop) → Prop) (Q : CW → Prop) (w : CW) : Prop :=
  Q w
def pC_X10_row_21 (p : Nat) (call : Nat → List ZA → CW → (ZRes → CW → Prop) → Prop) (Q : CW → Prop) (x0 : Nat) (x2 : Nat) (x3 : Nat) (x4 : Nat) (x5 : Int) (x6 : Int) (x7 : Int) (w : CW) : Prop :=
  ∀ I21 : Int → Int → Int → CW → Prop, (∀ (x5 : Int) (x6 : Int) (x7 : Int) (w : CW), (
    (hF 72 (tg w x0) = true) ∧
    (101 ≤ tg w (fR w 72 x0) ∧ tg w (fR w 72 x0) ≤ 119 ∧ (tg w (fR w 72 x0) < 107 ∨ 111 ≤ tg w (fR w 72 x0))) ∧
    (((ln w (fR w 72 x0) : Nat) : Int) ≤ x7 →
      pC_X10_row_98 p call Q w) ∧
    (¬ (((ln w (fR w 72 x0) : Nat) : Int) ≤ x7) →
      (hF 72 (tg w x0) = true) ∧
      ((111 ≤ tg w (fR w 72 x0) ∧ tg w (fR w 72 x0) ≤ 119) ∧ 0 ≤ x7 ∧ x7 < ln w (fR w 72 x0)) ∧
      call (vm0 (tg w (aR w (fR w 72 x0) x7))) [ar (aR w (fR w 72 x0) x7)] w (zqI (fun v11 u10 =>
        (¬ v11 = 0) ∧
        ∀ x5_13 : Int, x5_13 = i_div x5 v11 →
        (hF 72 (tg u10 x0) = true) ∧
        ((111 ≤ tg u10 (fR u10 72 x0) ∧ tg u10 (fR u10 72 x0) ≤ 119) ∧ 0 ≤ x7 ∧ x7 < ln u10 (fR u10 72 x0)) ∧
        (¬ x5_13 = 0) ∧
        (hF 71 (tg u10 x0) = true) ∧
        (hF 71 (tg u10 x0) = true) ∧
        (hF 41 (tg u10 (fR u10 71 x0)) = true) ∧
        (tg u10 (fR u10 41 (fR u10 71 x0)) = 102 ∧ 0 ≤ x7 ∧ x7 < ln u10 (fR u10 41 (fR u10 71 x0))) ∧
        (tg u10 x3 = 4) ∧
        call 87 [ar x3, ar x2, ar (fR u10 71 x0), ai x7, ai (aN u10 (fR u10 41 (fR u10 71 x0)) x7)] u10 (zqR (fun v22 u21 =>
          call (vm10 (tg u21 (aR u10 (fR u10 72 x0) x7))) [ar (aR u10 (fR u10 72 x0) x7), ai (i_div x6 x5_13), ar v22, ar x3, ar x4] u21 (zqV (fun u23 =>
            (¬ x5_13 = 0) ∧
            ∀ x6_26 : Int, x6_26 = i_rem x6 x5_13 →
            ∀ x7_27 : Int, x7_27 = w32 (x7 + 1) →
            I21 x5_13 x6_26 x7_27 u23) zno)) zno)) zno))) → I21 x5 x6 x7 w) → I21 x5 x6 x7 w
def pC_X10_row_0 (p : Nat) (call : Nat → List ZA → CW → (ZRes → CW → Prop) → Prop) (Q : CW → Prop) (x0 : Nat) (x1 : Int) (x2 : Nat) (x3 : Nat) (x4 : Nat) (w : CW) : Prop :=
  (1 ≤ tg w x0 ∧ tg w x0 ≤ 35) ∧
  call 98 [ar x0, ai x1, ar x2, ar x3, ar x4] w (zqV (fun u1 =>
    (tg u1 x0 = 8) ∧
    call 103 [ar x0] u1 (zqI (fun v4 u3 =>
      pC_X10_row_21 p call Q x0 x2 x3 x4 v4 x1 0 u3) zno)) zno)
/-! LetterPost$Kinded.by(LLetterPost$Known;LLetterPost$Place;)I -/
def pC_X10_by_47 (p : Nat) (call : Nat → List ZA → CW → (ZRes → CW → Prop) → Prop) (Q : Int → CW → Prop) (s0 : Int) (w : CW) : Prop :=
  Q s0 w
def pC_X10_by_46 (p : Nat) (call : Nat → List ZA → CW → (ZRes → CW → Prop) → Prop) (Q : Int → CW → Prop) (w : CW) : Prop :=
  pC_X10_by_47 p call Q (-1) w
def pC_X10_by_0 (p : Nat) (call : Nat → List ZA → CW → (ZRes → CW → Prop) → Prop) (Q : Int → CW → Prop) (x0 : Nat) (x1 : Nat) (x2 : Nat) (w : CW) : Prop :=
  (hF 98 (tg w x1) = true) ∧
  (hF 89 (tg w x2) = true) ∧
  (tg w (fR w 98 x1) = 102 ∧ 0 ≤ (fI w 89 x2) ∧ (fI w 89 x2) < ln w (fR w 98 x1)) ∧
  ∀ x3_4 : Int, x3_4 = aN w (fR w 98 x1) (fI w 89 x2) →
  (x3_4 = 0 →
    pC_X10_by_47 p call Q 0 w) ∧
  (¬ (x3_4 = 0) →
    (x3_4 = 2 →
      (hF 99 (tg w x1) = true) ∧
      (hF 89 (tg w x2) = true) ∧
      ((111 ≤ tg w (fR w 99 x1) ∧ tg w (fR w 99 x1) ≤ 119) ∧ 0 ≤ (fI w 89 x2) ∧ (fI w 89 x2) < ln w (fR w 99 x1)) ∧
      (hF 71 (tg w x0) = true) ∧
      (tg w (aR w (fR w 99 x1) (fI w 89 x2)) = 3) ∧
      call 83 [ar (aR w (fR w 99 x1) (fI w 89 x2)), ar (fR w 71 x0)] w (zqI (fun v12 u11 =>
        (v12 = 0 →
          pC_X10_by_46 p call Q u11) ∧
        (¬ (v12 = 0) →
          pC_X10_by_47 p call Q 1 u11)) zno)) ∧
    (¬ (x3_4 = 2) →
      pC_X10_by_46 p call Q w))
/-! LetterPost$Kinded.holds(LLetterPost$Value;[LLetterPost$Value;)Z -/
def pC_X10_holds_72 (p : Nat) (call : Nat → List ZA → CW → (ZRes → CW → Prop) → Prop) (Q : Int → CW → Prop) (x3 : Int) (w : CW) : Prop :=
  (x3 = 0 ∨ x3 = 1) ∧
  Q x3 w
def pC_X10_holds_30 (p : Nat) (call : Nat → List ZA → CW → (ZRes → CW → Prop) → Prop) (Q : Int → CW → Prop) (x0 : Nat) (x1 : Nat) (x2 : Nat) (x3 : Int) (x4 : Int) (w : CW) : Prop :=
  ∀ I30 : Int → Int → CW → Prop, (∀ (x3 : Int) (x4 : Int) (w : CW), (
    ((¬ (x3 = 0) → (hF 72 (tg w x0) = true) ∧ (101 ≤ tg w (fR w 72 x0) ∧ tg w (fR w 72 x0) ≤ 119 ∧ (tg w (fR w 72 x0) < 107 ∨ 111 ≤ tg w (fR w 72 x0))))) ∧
    (¬ (x3 = 0) ∧ (¬ (((ln w (fR w 72 x0) : Nat) : Int) ≤ x4)) →
      (hF 72 (tg w x0) = true) ∧
      ((111 ≤ tg w (fR w 72 x0) ∧ tg w (fR w 72 x0) ≤ 119) ∧ 0 ≤ x4 ∧ x4 < ln w (fR w 72 x0)) ∧
      (x1 = 0 ∨ zca (tg w x1) "LetterPost$Letter" = true) ∧
      (hF 118 (tg w x1) = true) ∧
      ((111 ≤ tg w (fR w 118 x1) ∧ tg w (fR w 118 x1) ≤ 119) ∧ 0 ≤ x4 ∧ x4 < ln w (fR w 118 x1)) ∧
      (tg w (aR w (fR w 72 x0) x4) = 6 ∨ tg w (aR w (fR w 72 x0) x4) = 7 ∨ tg w (aR w (fR w 72 x0) x4) = 8 ∨ tg w (aR w (fR w 72 x0) x4) = 9 ∨ tg w (aR w (fR w 72 x0) x4) = 10 ∨ tg w (aR w (fR w 72 x0) x4) = 11 ∨ tg w (aR w (fR w 72 x0) x4) = 12) ∧
      call 94 [ar (aR w (fR w 72 x0) x4), ar (aR w (fR w 118 x1) x4), ar x2] w (zqI (fun v11 u10 =>
        ∀ x4_12 : Int, x4_12 = w32 (x4 + 1) →
        I30 v11 x4_12 u10) zno)) ∧
    (¬ (¬ (x3 = 0) ∧ (¬ (((ln w (fR w 72 x0) : Nat) : Int) ≤ x4))) →
      pC_X10_holds_72 p call Q x3 w)) → I30 x3 x4 w) → I30 x3 x4 w
def pC_X10_holds_26 (p : Nat) (call : Nat → List ZA → CW → (ZRes → CW → Prop) → Prop) (Q : Int → CW → Prop) (x0 : Nat) (x1 : Nat) (x2 : Nat) (s0 : Int) (w : CW) : Prop :=
  pC_X10_holds_30 p call Q x0 x1 x2 s0 0 w
def pC_X10_holds_25 (p : Nat) (call : Nat → List ZA → CW → (ZRes → CW → Prop) → Prop) (Q : Int → CW → Prop) (x0 : Nat) (x1 : Nat) (x2 : Nat) (w : CW) : Prop :=
  pC_X10_holds_26 p call Q x0 x1 x2 0 w
def pC_X10_holds_0 (p : Nat) (call : Nat → List ZA → CW → (ZRes → CW → Prop) → Prop) (Q : Int → CW → Prop) (x0 : Nat) (x1 : Nat) (x2 : Nat) (w : CW) : Prop :=
  call (vm4 (tg w x1)) [ar x1] w (zqR (fun v2 u1 =>
    (v2 = 0 →
      pC_X10_holds_25 p call Q x0 x1 x2 u1) ∧
    (¬ (v2 = 0) →
      call (vm4 (tg u1 x1)) [ar x1] u1 (zqR (fun v21 u20 =>
        (hF 71 (tg u20 x0) = true) ∧
        (tg u20 v21 = 3) ∧
        call 83 [ar v21, ar (fR u20 71 x0)] u20 (zqI (fun v24 u23 =>
          (v24 = 0 →
            pC_X10_holds_25 p call Q x0 x1 x2 u23) ∧
          (¬ (v24 = 0) →
            pC_X10_holds_26 p call Q x0 x1 x2 1 u23)) zno)) zno))) zno)
/-! LetterPost$Either.<init>([LLetterPost$Pattern;)V -/
def pC_X11_init_0 (p : Nat) (call : Nat → List ZA → CW → (ZRes → CW → Prop) → Prop) (Q : CW → Prop) (x0 : Nat) (x1 : Nat) (w : CW) : Prop :=
  (¬ x0 = 0) ∧
  call 91 [ar x0] w (zqV (fun u1 =>
    (hP 73 (tg u1 x0) = true) ∧
    ∀ u3 : CW, u3 = pR u1 73 x0 x1 →
    Q u3) zno)
/-! LetterPost$Either.ways()I -/
def pC_X11_ways_44 (p : Nat) (call : Nat → List ZA → CW → (ZRes → CW → Prop) → Prop) (Q : Int → CW → Prop) (x1 : Int) (w : CW) : Prop :=
  Q x1 w
def pC_X11_ways_13 (p : Nat) (call : Nat → List ZA → CW → (ZRes → CW → Prop) → Prop) (Q : Int → CW → Prop) (x1 : Int) (x2 : Nat) (x3 : Int) (x4 : Int) (w : CW) : Prop :=
  ∀ I13 : Int → Int → CW → Prop, (∀ (x1 : Int) (x4 : Int) (w : CW), (
    (x3 ≤ x4 →
      pC_X11_ways_44 p call Q x1 w) ∧
    (¬ (x3 ≤ x4) →
      ((111 ≤ tg w x2 ∧ tg w x2 ≤ 119) ∧ 0 ≤ x4 ∧ x4 < ln w x2) ∧
      ∀ x5_7 : Nat, x5_7 = aR w x2 x4 →
      call (vm0 (tg w x5_7)) [ar x5_7] w (zqI (fun v9 u8 =>
        ∀ x1_10 : Int, x1_10 = (if (w32 (x1 + v9)) < 41 then (w32 (x1 + v9)) else 41) →
        ∀ x4_11 : Int, x4_11 = w32 (x4 + 1) →
        I13 x1_10 x4_11 u8) zno))) → I13 x1 x4 w) → I13 x1 x4 w
def pC_X11_ways_0 (p : Nat) (call : Nat → List ZA → CW → (ZRes → CW → Prop) → Prop) (Q : Int → CW → Prop) (x0 : Nat) (w : CW) : Prop :=
  (hF 73 (tg w x0) = true) ∧
  ∀ x2_2 : Nat, x2_2 = fR w 73 x0 →
  (101 ≤ tg w x2_2 ∧ tg w x2_2 ≤ 119 ∧ (tg w x2_2 < 107 ∨ 111 ≤ tg w x2_2)) ∧
  ∀ x3_4 : Int, x3_4 = ((ln w x2_2 : Nat) : Int) →
  pC_X11_ways_13 p call Q 0 x2_2 x3_4 0 w
/-! LetterPost$Either.row(ILLetterPost$Place;LLetterPost$Function;LLetterPost$Row;)V -/
def pC_X11_row_42 (p : Nat) (call : Nat → List ZA → CW → (ZRes → CW → Prop) → Prop) (Q : CW → Prop) (x0 : Nat) (x1 : Int) (x2 : Nat) (x3 : Nat) (x4 : Nat) (x5 : Int) (x6 : Int) (w : CW) : Prop :=
  (hF 73 (tg w x0) = true) ∧
  ((111 ≤ tg w (fR w 73 x0) ∧ tg w (fR w 73 x0) ≤ 119) ∧ 0 ≤ x6 ∧ x6 < ln w (fR w 73 x0)) ∧
  call (vm10 (tg w (aR w (fR w 73 x0) x6))) [ar (aR w (fR w 73 x0) x6), ai x5, ar x2, ar x3, ar x4] w (zqV (fun u8 =>
    (1 ≤ tg u8 x0 ∧ tg u8 x0 ≤ 35) ∧
    call 93 [ar x0, ai x1, ar x2, ar x3, ar x4] u8 (zqV (fun u10 =>
      Q u10) zno)) zno)
def pC_X11_row_6 (p : Nat) (call : Nat → List ZA → CW → (ZRes → CW → Prop) → Prop) (Q : CW → Prop) (x0 : Nat) (x1 : Int) (x2 : Nat) (x3 : Nat) (x4 : Nat) (x5 : Int) (x6 : Int) (w : CW) : Prop :=
  ∀ I6 : Int → Int → CW → Prop, (∀ (x5 : Int) (x6 : Int) (w : CW), (
    (hF 73 (tg w x0) = true) ∧
    ((111 ≤ tg w (fR w 73 x0) ∧ tg w (fR w 73 x0) ≤ 119) ∧ 0 ≤ x6 ∧ x6 < ln w (fR w 73 x0)) ∧
    call (vm0 (tg w (aR w (fR w 73 x0) x6))) [ar (aR w (fR w 73 x0) x6)] w (zqI (fun v4 u3 =>
      (x5 < v4 →
        pC_X11_row_42 p call Q x0 x1 x2 x3 x4 x5 x6 u3) ∧
      (¬ (x5 < v4) →
        (hF 73 (tg u3 x0) = true) ∧
        ((111 ≤ tg u3 (fR u3 73 x0) ∧ tg u3 (fR u3 73 x0) ≤ 119) ∧ 0 ≤ x6 ∧ x6 < ln u3 (fR u3 73 x0)) ∧
        call (vm0 (tg u3 (aR u3 (fR u3 73 x0) x6))) [ar (aR u3 (fR u3 73 x0) x6)] u3 (zqI (fun v24 u23 =>
          ∀ x5_25 : Int, x5_25 = w32 (x5 - v24) →
          ∀ x6_26 : Int, x6_26 = w32 (x6 + 1) →
          I6 x5_25 x6_26 u23) zno))) zno)) → I6 x5 x6 w) → I6 x5 x6 w
def pC_X11_row_0 (p : Nat) (call : Nat → List ZA → CW → (ZRes → CW → Prop) → Prop) (Q : CW → Prop) (x0 : Nat) (x1 : Int) (x2 : Nat) (x3 : Nat) (x4 : Nat) (w : CW) : Prop :=
  pC_X11_row_6 p call Q x0 x1 x2 x3 x4 x1 0 w
/-! LetterPost$Either.holds(LLetterPost$Value;[LLetterPost$Value;)Z -/
def pC_X11_holds_38 (p : Nat) (call : Nat → List ZA → CW → (ZRes → CW → Prop) → Prop) (Q : Int → CW → Prop) (x3 : Int) (w : CW) : Prop :=
  (x3 = 0 ∨ x3 = 1) ∧
  Q x3 w
def pC_X11_holds_5 (p : Nat) (call : Nat → List ZA → CW → (ZRes → CW → Prop) → Prop) (Q : Int → CW → Prop) (x0 : Nat) (x1 : Nat) (x2 : Nat) (x3 : Int) (x4 : Int) (w : CW) : Prop :=
  ∀ I5 : Int → Int → CW → Prop, (∀ (x3 : Int) (x4 : Int) (w : CW), (
    ((x3 = 0 → (hF 73 (tg w x0) = true) ∧ (101 ≤ tg w (fR w 73 x0) ∧ tg w (fR w 73 x0) ≤ 119 ∧ (tg w (fR w 73 x0) < 107 ∨ 111 ≤ tg w (fR w 73 x0))))) ∧
    ((x3 = 0) ∧ (¬ (((ln w (fR w 73 x0) : Nat) : Int) ≤ x4)) →
      (hF 73 (tg w x0) = true) ∧
      ((111 ≤ tg w (fR w 73 x0) ∧ tg w (fR w 73 x0) ≤ 119) ∧ 0 ≤ x4 ∧ x4 < ln w (fR w 73 x0)) ∧
      (tg w (aR w (fR w 73 x0) x4) = 6 ∨ tg w (aR w (fR w 73 x0) x4) = 7 ∨ tg w (aR w (fR w 73 x0) x4) = 8 ∨ tg w (aR w (fR w 73 x0) x4) = 9 ∨ tg w (aR w (fR w 73 x0) x4) = 10 ∨ tg w (aR w (fR w 73 x0) x4) = 11 ∨ tg w (aR w (fR w 73 x0) x4) = 12) ∧
      call 94 [ar (aR w (fR w 73 x0) x4), ar x1, ar x2] w (zqI (fun v5 u4 =>
        ∀ x4_6 : Int, x4_6 = w32 (x4 + 1) →
        I5 v5 x4_6 u4) zno)) ∧
    (¬ ((x3 = 0) ∧ (¬ (((ln w (fR w 73 x0) : Nat) : Int) ≤ x4))) →
      pC_X11_holds_38 p call Q x3 w)) → I5 x3 x4 w) → I5 x3 x4 w
def pC_X11_holds_0 (p : Nat) (call : Nat → List ZA → CW → (ZRes → CW → Prop) → Prop) (Q : Int → CW → Prop) (x0 : Nat) (x1 : Nat) (x2 : Nat) (w : CW) : Prop :=
  pC_X11_holds_5 p call Q x0 x1 x2 0 0 w
/-! LetterPost$Word.<init>(J)V -/
def pC_X12_init_0 (p : Nat) (call : Nat → List ZA → CW → (ZRes → CW → Prop) → Prop) (Q : CW → Prop) (x0 : Nat) (x1 : Int) (w : CW) : Prop :=
  (¬ x0 = 0) ∧
  call 97 [ar x0] w (zqV (fun u1 =>
    (hP 74 (tg u1 x0) = true) ∧
    ∀ u3 : CW, u3 = pI u1 74 x0 x1 →
    Q u3) zno)
/-! LetterPost$Word.by(LLetterPost$Known;LLetterPost$Place;)I -/
def pC_X12_by_0 (p : Nat) (call : Nat → List ZA → CW → (ZRes → CW → Prop) → Prop) (Q : Int → CW → Prop) (x0 : Nat) (x1 : Nat) (x2 : Nat) (w : CW) : Prop :=
  (hF 98 (tg w x1) = true) ∧
  (hF 89 (tg w x2) = true) ∧
  (tg w (fR w 98 x1) = 102 ∧ 0 ≤ (fI w 89 x2) ∧ (fI w 89 x2) < ln w (fR w 98 x1)) ∧
  ((aN w (fR w 98 x1) (fI w 89 x2)) = 1 →
    (hF 100 (tg w x1) = true) ∧
    (hF 89 (tg w x2) = true) ∧
    (tg w (fR w 100 x1) = 103 ∧ 0 ≤ (fI w 89 x2) ∧ (fI w 89 x2) < ln w (fR w 100 x1)) ∧
    (hF 74 (tg w x0) = true) ∧
    ∀ v16 : Int, v16 = (if (aW w (fR w 100 x1) (fI w 89 x2)) = (fI w 74 x0) then 1 else (-1)) →
    Q v16 w) ∧
  (¬ ((aN w (fR w 98 x1) (fI w 89 x2)) = 1) →
    (hF 74 (tg w x0) = true) ∧
    (tg w x1 = 17) ∧
    call 150 [ar x1, ar x2, al (fI w 74 x0)] w (zqI (fun v7 u6 =>
      ∀ v8 : Int, v8 = (if ¬ (v7 = 0) then (-1) else 0) →
      Q v8 u6) zno))
/-! LetterPost$Word.holds(LLetterPost$Value;[LLetterPost$Value;)Z -/
def pC_X12_holds_0 (p : Nat) (call : Nat → List ZA → CW → (ZRes → CW → Prop) → Prop) (Q : Int → CW → Prop) (x0 : Nat) (x1 : Nat) (w : CW) : Prop :=
  (x1 = 0 ∨ zca (tg w x1) "LetterPost$Text" = true) ∧
  (hF 116 (tg w x1) = true) ∧
  (hF 74 (tg w x0) = true) ∧
  ∀ v4 : Int, v4 = (if (fI w 116 x1) = (fI w 74 x0) then 1 else 0) →
  Q v4 w
/-! LetterPost$Same.<init>(Z)V -/
def pC_X13_init_0 (p : Nat) (call : Nat → List ZA → CW → (ZRes → CW → Prop) → Prop) (Q : CW → Prop) (x0 : Nat) (x1 : Int) (w : CW) : Prop :=
  (¬ x0 = 0) ∧
  call 97 [ar x0] w (zqV (fun u1 =>
    (hP 75 (tg u1 x0) = true) ∧
    (x1 = 0 ∨ x1 = 1) ∧
    ∀ u3 : CW, u3 = pI u1 75 x0 x1 →
    Q u3) zno)
/-! LetterPost$Same.by(LLetterPost$Known;LLetterPost$Place;)I -/
def pC_X13_by_39 (p : Nat) (call : Nat → List ZA → CW → (ZRes → CW → Prop) → Prop) (Q : Int → CW → Prop) (s0 : Int) (w : CW) : Prop :=
  Q s0 w
def pC_X13_by_0 (p : Nat) (call : Nat → List ZA → CW → (ZRes → CW → Prop) → Prop) (Q : Int → CW → Prop) (x0 : Nat) (x1 : Nat) (x2 : Nat) (w : CW) : Prop :=
  (hF 98 (tg w x1) = true) ∧
  (hF 89 (tg w x2) = true) ∧
  (tg w (fR w 98 x1) = 102 ∧ 0 ≤ (fI w 89 x2) ∧ (fI w 89 x2) < ln w (fR w 98 x1)) ∧
  ∀ x3_4 : Int, x3_4 = aN w (fR w 98 x1) (fI w 89 x2) →
  (x3_4 = 0 →
    pC_X13_by_39 p call Q 0 w) ∧
  (¬ (x3_4 = 0) →
    (hF 75 (tg w x0) = true) ∧
    ∀ v7 : Int, v7 = (if (fI w 75 x0) = 0 then 1 else 2) →
    (x3_4 = v7 →
      pC_X13_by_39 p call Q 1 w) ∧
    (¬ (x3_4 = v7) →
      pC_X13_by_39 p call Q (-1) w))
/-! LetterPost$Same.holds(LLetterPost$Value;[LLetterPost$Value;)Z -/
def pC_X13_holds_0 (p : Nat) (call : Nat → List ZA → CW → (ZRes → CW → Prop) → Prop) (Q : Int → CW → Prop) (x0 : Nat) (x1 : Nat) (w : CW) : Prop :=
  call (vm6 (tg w x1)) [ar x1] w (zqI (fun v2 u1 =>
    (hF 75 (tg u1 x0) = true) ∧
    ∀ v4 : Int, v4 = (if ¬ ((fI u1 75 x0) = 0) then 1 else 0) →
    ∀ v5 : Int, v5 = (if v2 = v4 then 1 else 0) →
    Q v5 u1) zno)
/-! LetterPost$None.<init>()V -/
def pC_X14_init_0 (p : Nat) (call : Nat → List ZA → CW → (ZRes → CW → Prop) → Prop) (Q : CW → Prop) (x0 : Nat) (w : CW) : Prop :=
  (¬ x0 = 0) ∧
  call 97 [ar x0] w (zqV (fun u1 =>
    Q u1) zno)
/-! LetterPost$None.by(LLetterPost$Known;LLetterPost$Place;)I -/
def pC_X14_by_0 (p : Nat) (call : Nat → List ZA → CW → (ZRes → CW → Prop) → Prop) (Q : Int → CW → Prop) (x1 : Nat) (x2 : Nat) (w : CW) : Prop :=
  (hF 98 (tg w x1) = true) ∧
  (hF 89 (tg w x2) = true) ∧
  (tg w (fR w 98 x1) = 102 ∧ 0 ≤ (fI w 89 x2) ∧ (fI w 89 x2) < ln w (fR w 98 x1)) ∧
  ∀ x3_4 : Int, x3_4 = aN w (fR w 98 x1) (fI w 89 x2) →
  ∀ v5 : Int, v5 = (if x3_4 = 0 then 0 else (if x3_4 = 1 then 1 else (-1))) →
  Q v5 w
/-! LetterPost$None.holds(LLetterPost$Value;[LLetterPost$Value;)Z -/
def pC_X14_holds_0 (p : Nat) (call : Nat → List ZA → CW → (ZRes → CW → Prop) → Prop) (Q : Int → CW → Prop) (x1 : Nat) (w : CW) : Prop :=
  call (vm4 (tg w x1)) [ar x1] w (zqR (fun v2 u1 =>
    ∀ v3 : Int, v3 = (if v2 = 0 then 1 else 0) →
    Q v3 u1) zno)
/-! LetterPost$Guard.<init>()V -/
def pC_X15_init_0 (p : Nat) (call : Nat → List ZA → CW → (ZRes → CW → Prop) → Prop) (Q : CW → Prop) (x0 : Nat) (w : CW) : Prop :=
  (¬ x0 = 0) ∧
  ((0 ≤ (2 : Int) ∧ (2 : Int) ≤ 1000000) ∧ cz w + 1 ≤ mz w ∧ cu w + Int.toNat 2 ≤ mu w) ∧
  ∀ u3 : CW, u3 = nA w 102 (Int.toNat 2) →
  (hP 76 (tg u3 x0) = true) ∧
  ∀ u5 : CW, u5 = pR u3 76 x0 (cz w + 1) →
  ((0 ≤ (4 : Int) ∧ (4 : Int) ≤ 1000000) ∧ cz u5 + 1 ≤ mz u5 ∧ cu u5 + Int.toNat 4 ≤ mu u5) ∧
  ∀ u7 : CW, u7 = nA u5 102 (Int.toNat 4) →
  (hP 77 (tg u7 x0) = true) ∧
  ∀ u9 : CW, u9 = pR u7 77 x0 (cz u5 + 1) →
  ((0 ≤ (4 : Int) ∧ (4 : Int) ≤ 1000000) ∧ cz u9 + 1 ≤ mz u9 ∧ cu u9 + Int.toNat 4 ≤ mu u9) ∧
  ∀ u11 : CW, u11 = nA u9 102 (Int.toNat 4) →
  (tg u11 (cz u9 + 1) = 102 ∧ 0 ≤ (0 : Int) ∧ (0 : Int) < ln u11 (cz u9 + 1)) ∧
  ∀ u13 : CW, u13 = qI u11 (cz u9 + 1) 0 (-1) →
  (tg u13 (cz u9 + 1) = 102 ∧ 0 ≤ (1 : Int) ∧ (1 : Int) < ln u13 (cz u9 + 1)) ∧
  ∀ u15 : CW, u15 = qI u13 (cz u9 + 1) 1 (-1) →
  (tg u15 (cz u9 + 1) = 102 ∧ 0 ≤ (2 : Int) ∧ (2 : Int) < ln u15 (cz u9 + 1)) ∧
  ∀ u17 : CW, u17 = qI u15 (cz u9 + 1) 2 (-1) →
  (tg u17 (cz u9 + 1) = 102 ∧ 0 ≤ (3 : Int) ∧ (3 : Int) < ln u17 (cz u9 + 1)) ∧
  ∀ u19 : CW, u19 = qI u17 (cz u9 + 1) 3 (-1) →
  (hP 78 (tg u19 x0) = true) ∧
  ∀ u21 : CW, u21 = pR u19 78 x0 (cz u9 + 1) →
  Q u21
/-! LetterPost$Guard.holds([LLetterPost$Value;)Z -/
def pC_X15_holds_0 (p : Nat) (call : Nat → List ZA → CW → (ZRes → CW → Prop) → Prop) (Q : Int → CW → Prop) (X : Nat → CW → Prop) (x0 : Nat) (x1 : Nat) (w : CW) : Prop :=
  (tg w x0 = 13) ∧
  call 122 [ar x0, ai 0, ar x1] w (zqI (fun v2 u1 =>
    (tg u1 x0 = 13) ∧
    call 122 [ar x0, ai 1, ar x1] u1 (zqI (fun v4 u3 =>
      (hF 79 (tg u3 x0) = true) ∧
      ((¬ ((fI u3 79 x0) = 60) → (hF 79 (tg u3 x0) = true))) ∧
      ∀ v6 : Int, v6 = (if (fI u3 79 x0) = 60 then (if v4 ≤ v2 then 0 else 1) else (if (fI u3 79 x0) = 62 then (if v2 ≤ v4 then 0 else 1) else (if v2 = v4 then 1 else 0))) →
      Q v6 u3) (fun x14 u15 =>
      X x14 u15))) (fun x17 u18 =>
    X x17 u18))
/-! LetterPost$Guard.sum(I[LLetterPost$Value;)I -/
def pC_X15_sum_109 (p : Nat) (call : Nat → List ZA → CW → (ZRes → CW → Prop) → Prop) (Q : Int → CW → Prop) (X : Nat → CW → Prop) (x3 : Int) (w : CW) : Prop :=
  Q x3 w
def pC_X15_sum_0 (p : Nat) (call : Nat → List ZA → CW → (ZRes → CW → Prop) → Prop) (Q : Int → CW → Prop) (X : Nat → CW → Prop) (x0 : Nat) (x1 : Int) (x2 : Nat) (w : CW) : Prop :=
  (tg w x0 = 13) ∧
  call 123 [ar x0, ai (w32 (2 * x1)), ar x2] w (zqI (fun v2 u1 =>
    (tg u1 x0 = 13) ∧
    call 123 [ar x0, ai (w32 ((w32 (2 * x1)) + 1)), ar x2] u1 (zqI (fun v4 u3 =>
      (hF 76 (tg u3 x0) = true) ∧
      (tg u3 (fR u3 76 x0) = 102 ∧ 0 ≤ x1 ∧ x1 < ln u3 (fR u3 76 x0)) ∧
      ((aN u3 (fR u3 76 x0) x1) = 37 →
        (¬ v4 = 0) ∧
        Q (i_rem v2 v4) u3) ∧
      ((aN u3 (fR u3 76 x0) x1) = 42 →
        Q (w32 (v2 * v4)) u3) ∧
      ((aN u3 (fR u3 76 x0) x1) = 43 →
        Q (w32 (v2 + v4)) u3) ∧
      ((aN u3 (fR u3 76 x0) x1) = 45 →
        Q (w32 (v2 - v4)) u3) ∧
      ((aN u3 (fR u3 76 x0) x1) = 47 →
        (¬ v4 = 0) ∧
        Q (i_div v2 v4) u3) ∧
      (¬ (aN u3 (fR u3 76 x0) x1) = 37 → ¬ (aN u3 (fR u3 76 x0) x1) = 42 → ¬ (aN u3 (fR u3 76 x0) x1) = 43 → ¬ (aN u3 (fR u3 76 x0) x1) = 45 → ¬ (aN u3 (fR u3 76 x0) x1) = 47 → 
        pC_X15_sum_109 p call Q X v2 u3)) zno)) zno)
/-! LetterPost$Guard.term(I[LLetterPost$Value;)I -/
def pC_X15_term_0 (p : Nat) (call : Nat → List ZA → CW → (ZRes → CW → Prop) → Prop) (Q : Int → CW → Prop) (x0 : Nat) (x1 : Int) (x2 : Nat) (w : CW) : Prop :=
  (hF 78 (tg w x0) = true) ∧
  (tg w (fR w 78 x0) = 102 ∧ 0 ≤ x1 ∧ x1 < ln w (fR w 78 x0)) ∧
  (((aN w (fR w 78 x0) x1) < 0 → (hF 77 (tg w x0) = true) ∧ (tg w (fR w 77 x0) = 102 ∧ 0 ≤ x1 ∧ x1 < ln w (fR w 77 x0))) ∧ (¬ ((aN w (fR w 78 x0) x1) < 0) → (hF 78 (tg w x0) = true) ∧ (tg w (fR w 78 x0) = 102 ∧ 0 ≤ x1 ∧ x1 < ln w (fR w 78 x0)) ∧ ((111 ≤ tg w x2 ∧ tg w x2 ≤ 119) ∧ 0 ≤ (aN w (fR w 78 x0) x1) ∧ (aN w (fR w 78 x0) x1) < ln w x2) ∧ ((aR w x2 (aN w (fR w 78 x0) x1)) = 0 ∨ zca (tg w (aR w x2 (aN w (fR w 78 x0) x1))) "LetterPost$Whole" = true) ∧ (hF 115 (tg w (aR w x2 (aN w (fR w 78 x0) x1))) = true))) ∧
  ∀ v3 : Int, v3 = (if ¬ ((aN w (fR w 78 x0) x1) < 0) then fI w 115 (aR w x2 (aN w (fR w 78 x0) x1)) else aN w (fR w 77 x0) x1) →
  Q v3 w
/-! LetterPost$Row.<init>(LLetterPost$Rule;)V -/
def pC_X16_init_0 (p : Nat) (call : Nat → List ZA → CW → (ZRes → CW → Prop) → Prop) (Q : CW → Prop) (x0 : Nat) (x1 : Nat) (w : CW) : Prop :=
  (¬ x0 = 0) ∧
  ((0 ≤ (8 : Int) ∧ (8 : Int) ≤ 1000000) ∧ cz w + 1 ≤ mz w ∧ cu w + Int.toNat 8 ≤ mu w) ∧
  ∀ u3 : CW, u3 = nA w 115 (Int.toNat 8) →
  (hP 81 (tg u3 x0) = true) ∧
  ∀ u5 : CW, u5 = pR u3 81 x0 (cz w + 1) →
  ((0 ≤ (8 : Int) ∧ (8 : Int) ≤ 1000000) ∧ cz u5 + 1 ≤ mz u5 ∧ cu u5 + Int.toNat 8 ≤ mu u5) ∧
  ∀ u7 : CW, u7 = nA u5 118 (Int.toNat 8) →
  (hP 82 (tg u7 x0) = true) ∧
  ∀ u9 : CW, u9 = pR u7 82 x0 (cz u5 + 1) →
  ((0 ≤ (8 : Int) ∧ (8 : Int) ≤ 1000000) ∧ cz u9 + 1 ≤ mz u9 ∧ cu u9 + Int.toNat 8 ≤ mu u9) ∧
  ∀ u11 : CW, u11 = nA u9 115 (Int.toNat 8) →
  (hP 84 (tg u11 x0) = true) ∧
  ∀ u13 : CW, u13 = pR u11 84 x0 (cz u9 + 1) →
  (hP 80 (tg u13 x0) = true) ∧
  ∀ u15 : CW, u15 = pR u13 80 x0 x1 →
  Q u15
/-! LetterPost$Row.add(LLetterPost$Place;LLetterPost$Test;)V -/
def pC_X16_add_73 (p : Nat) (call : Nat → List ZA → CW → (ZRes → CW → Prop) → Prop) (Q : CW → Prop) (x0 : Nat) (x1 : Nat) (x2 : Nat) (w : CW) : Prop :=
  (hF 81 (tg w x0) = true) ∧
  (hF 83 (tg w x0) = true) ∧
  ((111 ≤ tg w (fR w 81 x0) ∧ tg w (fR w 81 x0) ≤ 119) ∧ 0 ≤ (fI w 83 x0) ∧ (fI w 83 x0) < ln w (fR w 81 x0)) ∧
  (x1 = 0 ∨ zst (tg w (fR w 81 x0)) (tg w x1) = true) ∧
  ∀ u7 : CW, u7 = qR w (fR w 81 x0) (fI w 83 x0) x1 →
  (hF 82 (tg u7 x0) = true) ∧
  (hF 83 (tg u7 x0) = true) ∧
  ((111 ≤ tg u7 (fR u7 82 x0) ∧ tg u7 (fR u7 82 x0) ≤ 119) ∧ 0 ≤ (fI u7 83 x0) ∧ (fI u7 83 x0) < ln u7 (fR u7 82 x0)) ∧
  (x2 = 0 ∨ zst (tg u7 (fR u7 82 x0)) (tg u7 x2) = true) ∧
  ∀ u12 : CW, u12 = qR u7 (fR u7 82 x0) (fI u7 83 x0) x2 →
  (hF 83 (tg u12 x0) = true) ∧
  (hP 83 (tg u12 x0) = true) ∧
  ∀ u16 : CW, u16 = pI u12 83 x0 (w32 ((fI u12 83 x0) + 1)) →
  Q u16
def pC_X16_add_0 (p : Nat) (call : Nat → List ZA → CW → (ZRes → CW → Prop) → Prop) (Q : CW → Prop) (x0 : Nat) (x1 : Nat) (x2 : Nat) (w : CW) : Prop :=
  (hF 83 (tg w x0) = true) ∧
  (hF 81 (tg w x0) = true) ∧
  (101 ≤ tg w (fR w 81 x0) ∧ tg w (fR w 81 x0) ≤ 119 ∧ (tg w (fR w 81 x0) < 107 ∨ 111 ≤ tg w (fR w 81 x0))) ∧
  ((fI w 83 x0) = ((ln w (fR w 81 x0) : Nat) : Int) →
    (hF 83 (tg w x0) = true) ∧
    ((0 ≤ (w32 (2 * (fI w 83 x0))) ∧ (w32 (2 * (fI w 83 x0))) ≤ 1000000) ∧ cz w + 1 ≤ mz w ∧ cu w + Int.toNat (w32 (2 * (fI w 83 x0))) ≤ mu w) ∧
    ∀ u19 : CW, u19 = nA w 115 (Int.toNat (w32 (2 * (fI w 83 x0)))) →
    (hF 81 (tg u19 x0) = true) ∧
    (hF 83 (tg u19 x0) = true) ∧
    ((0 ≤ (0 : Int) ∧ 0 ≤ (0 : Int) ∧ 0 ≤ (fI u19 83 x0) ∧ (0 : Int) + (fI u19 83 x0) ≤ ln u19 (fR u19 81 x0) ∧ (0 : Int) + (fI u19 83 x0) ≤ ln u19 (cz w + 1)) ∧ cpOk u19 (fR u19 81 x0) 0 (cz w + 1) (fI u19 83 x0)) ∧
    ∀ u23 : CW, u23 = qC u19 (fR u19 81 x0) 0 (cz w + 1) 0 (fI u19 83 x0) →
    (hP 81 (tg u23 x0) = true) ∧
    ∀ u25 : CW, u25 = pR u23 81 x0 (cz w + 1) →
    (hF 83 (tg u25 x0) = true) ∧
    ((0 ≤ (w32 (2 * (fI u25 83 x0))) ∧ (w32 (2 * (fI u25 83 x0))) ≤ 1000000) ∧ cz u25 + 1 ≤ mz u25 ∧ cu u25 + Int.toNat (w32 (2 * (fI u25 83 x0))) ≤ mu u25) ∧
    ∀ u28 : CW, u28 = nA u25 118 (Int.toNat (w32 (2 * (fI u25 83 x0)))) →
    (hF 82 (tg u28 x0) = true) ∧
    (hF 83 (tg u28 x0) = true) ∧
    ((0 ≤ (0 : Int) ∧ 0 ≤ (0 : Int) ∧ 0 ≤ (fI u28 83 x0) ∧ (0 : Int) + (fI u28 83 x0) ≤ ln u28 (fR u28 82 x0) ∧ (0 : Int) + (fI u28 83 x0) ≤ ln u28 (cz u25 + 1)) ∧ cpOk u28 (fR u28 82 x0) 0 (cz u25 + 1) (fI u28 83 x0)) ∧
    ∀ u32 : CW, u32 = qC u28 (fR u28 82 x0) 0 (cz u25 + 1) 0 (fI u28 83 x0) →
    (hP 82 (tg u32 x0) = true) ∧
    ∀ u34 : CW, u34 = pR u32 82 x0 (cz u25 + 1) →
    pC_X16_add_73 p call Q x0 x1 x2 u34) ∧
  (¬ ((fI w 83 x0) = ((ln w (fR w 81 x0) : Nat) : Int)) →
    pC_X16_add_73 p call Q x0 x1 x2 w)
/-! LetterPost$Row.isOut(LLetterPost$Known;)Z -/
def pC_X16_isOut_47 (p : Nat) (call : Nat → List ZA → CW → (ZRes → CW → Prop) → Prop) (Q : Int → CW → Prop) (x2 : Int) (w : CW) : Prop :=
  (x2 = 0 ∨ x2 = 1) ∧
  Q x2 w
def pC_X16_isOut_4 (p : Nat) (call : Nat → List ZA → CW → (ZRes → CW → Prop) → Prop) (Q : Int → CW → Prop) (x0 : Nat) (x1 : Nat) (x2 : Int) (x3 : Int) (w : CW) : Prop :=
  ∀ I4 : Int → Int → CW → Prop, (∀ (x2 : Int) (x3 : Int) (w : CW), (
    (hF 83 (tg w x0) = true) ∧
    (¬ ((fI w 83 x0) ≤ x3) ∧ (x2 = 0) →
      (hF 82 (tg w x0) = true) ∧
      ((111 ≤ tg w (fR w 82 x0) ∧ tg w (fR w 82 x0) ≤ 119) ∧ 0 ≤ x3 ∧ x3 < ln w (fR w 82 x0)) ∧
      (hF 81 (tg w x0) = true) ∧
      ((111 ≤ tg w (fR w 81 x0) ∧ tg w (fR w 81 x0) ≤ 119) ∧ 0 ≤ x3 ∧ x3 < ln w (fR w 81 x0)) ∧
      call (vm12 (tg w (aR w (fR w 82 x0) x3))) [ar (aR w (fR w 82 x0) x3), ar x1, ar (aR w (fR w 81 x0) x3)] w (zqI (fun v7 u6 =>
        ∀ v8 : Int, v8 = (if ¬ (0 ≤ v7) then 1 else 0) →
        ∀ x3_9 : Int, x3_9 = w32 (x3 + 1) →
        I4 v8 x3_9 u6) zno)) ∧
    (¬ (¬ ((fI w 83 x0) ≤ x3) ∧ (x2 = 0)) →
      pC_X16_isOut_47 p call Q x2 w)) → I4 x2 x3 w) → I4 x2 x3 w
def pC_X16_isOut_0 (p : Nat) (call : Nat → List ZA → CW → (ZRes → CW → Prop) → Prop) (Q : Int → CW → Prop) (x0 : Nat) (x1 : Nat) (w : CW) : Prop :=
  pC_X16_isOut_4 p call Q x0 x1 0 0 w
/-! LetterPost$Row.asked(LLetterPost$Known;[LLetterPost$Place;)I -/
def pC_X16_asked_110 (p : Nat) (call : Nat → List ZA → CW → (ZRes → CW → Prop) → Prop) (Q : Int → CW → Prop) (x3 : Int) (w : CW) : Prop :=
  Q x3 w
def pC_X16_asked_104 (p : Nat) (call : Nat → List ZA → CW → (ZRes → CW → Prop) → Prop) (Q : Int → CW → Prop) (I5 : Int → Int → CW → Prop) (x0 : Nat) (x1 : Nat) (x2 : Nat) (x3 : Int) (x4 : Int) (w : CW) : Prop :=
  ∀ x4_21 : Int, x4_21 = w32 (x4 + 1) →
  I5 x3 x4_21 w
def pC_X16_asked_86 (p : Nat) (call : Nat → List ZA → CW → (ZRes → CW → Prop) → Prop) (Q : Int → CW → Prop) (I5 : Int → Int → CW → Prop) (x0 : Nat) (x1 : Nat) (x2 : Nat) (x3 : Int) (x4 : Int) (x5 : Int) (w : CW) : Prop :=
  (x5 = 0 →
    pC_X16_asked_104 p call Q I5 x0 x1 x2 x3 x4 w) ∧
  (¬ (x5 = 0) →
    (hF 81 (tg w x0) = true) ∧
    ((111 ≤ tg w (fR w 81 x0) ∧ tg w (fR w 81 x0) ≤ 119) ∧ 0 ≤ x4 ∧ x4 < ln w (fR w 81 x0)) ∧
    ((111 ≤ tg w x2 ∧ tg w x2 ≤ 119) ∧ 0 ≤ x3 ∧ x3 < ln w x2) ∧
    ((aR w (fR w 81 x0) x4) = 0 ∨ zst (tg w x2) (tg w (aR w (fR w 81 x0) x4)) = true) ∧
    ∀ u24 : CW, u24 = qR w x2 x3 (aR w (fR w 81 x0) x4) →
    ∀ x3_27 : Int, x3_27 = w32 (x3 + 1) →
    pC_X16_asked_104 p call Q I5 x0 x1 x2 x3_27 x4 u24)
def pC_X16_asked_45 (p : Nat) (call : Nat → List ZA → CW → (ZRes → CW → Prop) → Prop) (Q : Int → CW → Prop) (I5 : Int → Int → CW → Prop) (x0 : Nat) (x1 : Nat) (x2 : Nat) (x3 : Int) (x4 : Int) (x5 : Int) (x6 : Int) (w : CW) : Prop :=
  ∀ I45 : Int → Int → CW → Prop, (∀ (x5 : Int) (x6 : Int) (w : CW), (
    (¬ (x3 ≤ x6) ∧ (¬ (x5 = 0)) →
      (hF 81 (tg w x0) = true) ∧
      ((111 ≤ tg w (fR w 81 x0) ∧ tg w (fR w 81 x0) ≤ 119) ∧ 0 ≤ x4 ∧ x4 < ln w (fR w 81 x0)) ∧
      ((111 ≤ tg w x2 ∧ tg w x2 ≤ 119) ∧ 0 ≤ x6 ∧ x6 < ln w x2) ∧
      (tg w (aR w (fR w 81 x0) x4) = 15) ∧
      call 130 [ar (aR w (fR w 81 x0) x4), ar (aR w x2 x6)] w (zqI (fun v14 u13 =>
        ∀ v15 : Int, v15 = (if v14 = 0 then 1 else 0) →
        ∀ x6_16 : Int, x6_16 = w32 (x6 + 1) →
        I45 v15 x6_16 u13) zno)) ∧
    (¬ (¬ (x3 ≤ x6) ∧ (¬ (x5 = 0))) →
      pC_X16_asked_86 p call Q I5 x0 x1 x2 x3 x4 x5 w)) → I45 x5 x6 w) → I45 x5 x6 w
def pC_X16_asked_5 (p : Nat) (call : Nat → List ZA → CW → (ZRes → CW → Prop) → Prop) (Q : Int → CW → Prop) (x0 : Nat) (x1 : Nat) (x2 : Nat) (x3 : Int) (x4 : Int) (w : CW) : Prop :=
  ∀ I5 : Int → Int → CW → Prop, (∀ (x3 : Int) (x4 : Int) (w : CW), (
    (hF 83 (tg w x0) = true) ∧
    ((fI w 83 x0) ≤ x4 →
      pC_X16_asked_110 p call Q x3 w) ∧
    (¬ ((fI w 83 x0) ≤ x4) →
      (hF 82 (tg w x0) = true) ∧
      ((111 ≤ tg w (fR w 82 x0) ∧ tg w (fR w 82 x0) ≤ 119) ∧ 0 ≤ x4 ∧ x4 < ln w (fR w 82 x0)) ∧
      (hF 81 (tg w x0) = true) ∧
      ((111 ≤ tg w (fR w 81 x0) ∧ tg w (fR w 81 x0) ≤ 119) ∧ 0 ≤ x4 ∧ x4 < ln w (fR w 81 x0)) ∧
      call (vm12 (tg w (aR w (fR w 82 x0) x4))) [ar (aR w (fR w 82 x0) x4), ar x1, ar (aR w (fR w 81 x0) x4)] w (zqI (fun v8 u7 =>
        ∀ v9 : Int, v9 = (if v8 = 0 then 1 else 0) →
        pC_X16_asked_45 p call Q I5 x0 x1 x2 x3 x4 v9 0 u7) zno))) → I5 x3 x4 w) → I5 x3 x4 w
def pC_X16_asked_0 (p : Nat) (call : Nat → List ZA → CW → (ZRes → CW → Prop) → Prop) (Q : Int → CW → Prop) (x0 : Nat) (x1 : Nat) (x2 : Nat) (w : CW) : Prop :=
  pC_X16_asked_5 p call Q x0 x1 x2 0 0 w
/-! LetterPost$Row.left(LLetterPost$Known;LLetterPost$Place;)LLetterPost$Test; -/
def pC_X16_left_47 (p : Nat) (call : Nat → List ZA → CW → (ZRes → CW → Prop) → Prop) (Q : Nat → CW → Prop) (w : CW) : Prop :=
  Q 0 w
def pC_X16_left_41 (p : Nat) (call : Nat → List ZA → CW → (ZRes → CW → Prop) → Prop) (Q : Nat → CW → Prop) (I2 : Int → CW → Prop) (x0 : Nat) (x1 : Nat) (x2 : Nat) (x3 : Int) (w : CW) : Prop :=
  ∀ x3_6 : Int, x3_6 = w32 (x3 + 1) →
  I2 x3_6 w
def pC_X16_left_34 (p : Nat) (call : Nat → List ZA → CW → (ZRes → CW → Prop) → Prop) (Q : Nat → CW → Prop) (x0 : Nat) (x3 : Int) (w : CW) : Prop :=
  (hF 82 (tg w x0) = true) ∧
  ((111 ≤ tg w (fR w 82 x0) ∧ tg w (fR w 82 x0) ≤ 119) ∧ 0 ≤ x3 ∧ x3 < ln w (fR w 82 x0)) ∧
  Q (aR w (fR w 82 x0) x3) w
def pC_X16_left_2 (p : Nat) (call : Nat → List ZA → CW → (ZRes → CW → Prop) → Prop) (Q : Nat → CW → Prop) (x0 : Nat) (x1 : Nat) (x2 : Nat) (x3 : Int) (w : CW) : Prop :=
  ∀ I2 : Int → CW → Prop, (∀ (x3 : Int) (w : CW), (
    (hF 83 (tg w x0) = true) ∧
    ((fI w 83 x0) ≤ x3 →
      pC_X16_left_47 p call Q w) ∧
    (¬ ((fI w 83 x0) ≤ x3) →
      (hF 81 (tg w x0) = true) ∧
      ((111 ≤ tg w (fR w 81 x0) ∧ tg w (fR w 81 x0) ≤ 119) ∧ 0 ≤ x3 ∧ x3 < ln w (fR w 81 x0)) ∧
      ((aR w (fR w 81 x0) x3) = x2 →
        (hF 82 (tg w x0) = true) ∧
        ((111 ≤ tg w (fR w 82 x0) ∧ tg w (fR w 82 x0) ≤ 119) ∧ 0 ≤ x3 ∧ x3 < ln w (fR w 82 x0)) ∧
        call (vm12 (tg w (aR w (fR w 82 x0) x3))) [ar (aR w (fR w 82 x0) x3), ar x1, ar x2] w (zqI (fun v10 u9 =>
          (v10 = 0 →
            pC_X16_left_34 p call Q x0 x3 u9) ∧
          (¬ (v10 = 0) →
            pC_X16_left_41 p call Q I2 x0 x1 x2 x3 u9)) zno)) ∧
      (¬ ((aR w (fR w 81 x0) x3) = x2) →
        pC_X16_left_41 p call Q I2 x0 x1 x2 x3 w))) → I2 x3 w) → I2 x3 w
def pC_X16_left_0 (p : Nat) (call : Nat → List ZA → CW → (ZRes → CW → Prop) → Prop) (Q : Nat → CW → Prop) (x0 : Nat) (x1 : Nat) (x2 : Nat) (w : CW) : Prop :=
  pC_X16_left_2 p call Q x0 x1 x2 0 w
/-! LetterPost$Place.<init>(LLetterPost$Place;LLetterPost$Kind;III)V -/
def pC_X17_init_0 (p : Nat) (call : Nat → List ZA → CW → (ZRes → CW → Prop) → Prop) (Q : CW → Prop) (x0 : Nat) (x1 : Nat) (x2 : Nat) (x3 : Int) (x4 : Int) (x5 : Int) (w : CW) : Prop :=
  (¬ x0 = 0) ∧
  (hP 85 (tg w x0) = true) ∧
  ∀ u3 : CW, u3 = pR w 85 x0 x1 →
  (hP 86 (tg u3 x0) = true) ∧
  ∀ u5 : CW, u5 = pR u3 86 x0 x2 →
  (hP 87 (tg u5 x0) = true) ∧
  ∀ u7 : CW, u7 = pI u5 87 x0 x3 →
  (hP 88 (tg u7 x0) = true) ∧
  ∀ u9 : CW, u9 = pI u7 88 x0 x4 →
  (hP 89 (tg u9 x0) = true) ∧
  ∀ u11 : CW, u11 = pI u9 89 x0 x5 →
  ((¬ (x1 = 0) → (hF 90 (tg u11 x1) = true))) ∧
  ∀ v13 : Int, v13 = (if x1 = 0 then 0 else w32 ((fI u11 90 x1) + 1)) →
  (hP 90 (tg u11 x0) = true) ∧
  ∀ u15 : CW, u15 = pI u11 90 x0 v13 →
  Q u15
/-! LetterPost$Place.isWithin(LLetterPost$Place;)Z -/
def pC_X17_isWithin_22 (p : Nat) (call : Nat → List ZA → CW → (ZRes → CW → Prop) → Prop) (Q : Int → CW → Prop) (x2 : Nat) (w : CW) : Prop :=
  ∀ v5 : Int, v5 = (if ¬ (x2 = 0) then 1 else 0) →
  Q v5 w
def pC_X17_isWithin_5 (p : Nat) (call : Nat → List ZA → CW → (ZRes → CW → Prop) → Prop) (Q : Int → CW → Prop) (x1 : Nat) (x2 : Nat) (w : CW) : Prop :=
  ∀ I5 : Nat → CW → Prop, (∀ (x2 : Nat) (w : CW), (
    (¬ (x2 = 0) ∧ (¬ (x2 = x1)) →
      (hF 85 (tg w x2) = true) ∧
      ∀ x2_4 : Nat, x2_4 = fR w 85 x2 →
      I5 x2_4 w) ∧
    (¬ (¬ (x2 = 0) ∧ (¬ (x2 = x1))) →
      pC_X17_isWithin_22 p call Q x2 w)) → I5 x2 w) → I5 x2 w
def pC_X17_isWithin_0 (p : Nat) (call : Nat → List ZA → CW → (ZRes → CW → Prop) → Prop) (Q : Int → CW → Prop) (x0 : Nat) (x1 : Nat) (w : CW) : Prop :=
  (hF 85 (tg w x0) = true) ∧
  ∀ x2_2 : Nat, x2_2 = fR w 85 x0 →
  pC_X17_isWithin_5 p call Q x1 x2_2 w
/-! LetterPost$Place.of([LLetterPost$Value;)LLetterPost$Value; -/
def pC_X17_of_35 (p : Nat) (call : Nat → List ZA → CW → (ZRes → CW → Prop) → Prop) (Q : Nat → CW → Prop) (s0 : Nat) (w : CW) : Prop :=
  Q s0 w
def pC_X17_of_0 (p : Nat) (call : Nat → List ZA → CW → (ZRes → CW → Prop) → Prop) (Q : Nat → CW → Prop) (x0 : Nat) (x1 : Nat) (w : CW) : Prop :=
  (hF 85 (tg w x0) = true) ∧
  ((fR w 85 x0) = 0 →
    (hF 87 (tg w x0) = true) ∧
    ((111 ≤ tg w x1 ∧ tg w x1 ≤ 119) ∧ 0 ≤ (fI w 87 x0) ∧ (fI w 87 x0) < ln w x1) ∧
    pC_X17_of_35 p call Q (aR w x1 (fI w 87 x0)) w) ∧
  (¬ ((fR w 85 x0) = 0) →
    (hF 85 (tg w x0) = true) ∧
    (tg w (fR w 85 x0) = 15) ∧
    call 131 [ar (fR w 85 x0), ar x1] w (zqR (fun v5 u4 =>
      (v5 = 0 ∨ zca (tg u4 v5) "LetterPost$Letter" = true) ∧
      (hF 118 (tg u4 v5) = true) ∧
      (hF 87 (tg u4 x0) = true) ∧
      ((111 ≤ tg u4 (fR u4 118 v5) ∧ tg u4 (fR u4 118 v5) ≤ 119) ∧ 0 ≤ (fI u4 87 x0) ∧ (fI u4 87 x0) < ln u4 (fR u4 118 v5)) ∧
      pC_X17_of_35 p call Q (aR u4 (fR u4 118 v5) (fI u4 87 x0)) u4) zno))
/-! LetterPost$Maker.<init>(LLetterPost;LLetterPost$Function;I)V -/
def pC_X18_init_0 (p : Nat) (call : Nat → List ZA → CW → (ZRes → CW → Prop) → Prop) (Q : CW → Prop) (x0 : Nat) (x1 : Nat) (x2 : Nat) (x3 : Int) (w : CW) : Prop :=
  (hP 97 (tg w x0) = true) ∧
  ∀ u1 : CW, u1 = pR w 97 x0 x1 →
  (¬ x0 = 0) ∧
  ((0 ≤ (41 : Int) ∧ (41 : Int) ≤ 1000000) ∧ cz u1 + 1 ≤ mz u1 ∧ cu u1 + Int.toNat 41 ≤ mu u1) ∧
  ∀ u5 : CW, u5 = nA u1 103 (Int.toNat 41) →
  (hP 95 (tg u5 x0) = true) ∧
  ∀ u7 : CW, u7 = pR u5 95 x0 (cz u1 + 1) →
  ((0 ≤ (81 : Int) ∧ (81 : Int) ≤ 1000000) ∧ cz u7 + 1 ≤ mz u7 ∧ cu u7 + Int.toNat 81 ≤ mu u7) ∧
  ∀ u9 : CW, u9 = nA u7 102 (Int.toNat 81) →
  (hP 96 (tg u9 x0) = true) ∧
  ∀ u11 : CW, u11 = pR u9 96 x0 (cz u7 + 1) →
  (cz u11 + 1 ≤ mz u11 ∧ cu u11 + 8 ≤ mu u11) ∧
  ∀ u13 : CW, u13 = nO u11 17 8 →
  (hF 51 (tg u13 x2) = true) ∧
  call 149 [ar (cz u11 + 1), ai (fI u13 51 x2)] u13 (zqV (fun u16 =>
    (hP 91 (tg u16 x0) = true) ∧
    ∀ u18 : CW, u18 = pR u16 91 x0 (cz u11 + 1) →
    (hP 92 (tg u18 x0) = true) ∧
    ∀ u20 : CW, u20 = pI u18 92 x0 x3 →
    (hF 51 (tg u20 x2) = true) ∧
    ((0 ≤ (fI u20 51 x2) ∧ (fI u20 51 x2) ≤ 1000000) ∧ cz u20 + 1 ≤ mz u20 ∧ cu u20 + Int.toNat (fI u20 51 x2) ≤ mu u20) ∧
    ∀ u23 : CW, u23 = nA u20 115 (Int.toNat (fI u20 51 x2)) →
    (hP 94 (tg u23 x0) = true) ∧
    ∀ u25 : CW, u25 = pR u23 94 x0 (cz u20 + 1) →
    Q u25) zno)
/-! LetterPost$Maker.make([LLetterPost$Row;I)LLetterPost$Node; -/
def pC_X18_make_216 (p : Nat) (call : Nat → List ZA → CW → (ZRes → CW → Prop) → Prop) (Q : Nat → CW → Prop) (X : Nat → CW → Prop) (s0 : Nat) (w : CW) : Prop :=
  Q s0 w
def pC_X18_make_48 (p : Nat) (call : Nat → List ZA → CW → (ZRes → CW → Prop) → Prop) (Q : Nat → CW → Prop) (X : Nat → CW → Prop) (x0 : Nat) (x3 : Nat) (x4 : Int) (w : CW) : Prop :=
  (hF 93 (tg w x0) = true) ∧
  ((fI w 93 x0) = 120 →
    (cz w + 1 ≤ mz w ∧ cu w + 6 ≤ mu w) ∧
    ∀ u57 : CW, u57 = nO w 18 6 →
    call 151 [ar (cz w + 1)] u57 (zqV (fun u59 =>
      X (cz w + 1) u59) zno)) ∧
  (¬ ((fI w 93 x0) = 120) →
    (hF 93 (tg w x0) = true) ∧
    ∀ x5_7 : Int, x5_7 = fI w 93 x0 →
    (hF 93 (tg w x0) = true) ∧
    (hP 93 (tg w x0) = true) ∧
    ∀ u9 : CW, u9 = pI w 93 x0 (w32 ((fI w 93 x0) + 1)) →
    (x4 = 0 →
      (cz u9 + 1 ≤ mz u9 ∧ cu u9 + 2 ≤ mu u9) ∧
      ∀ u53 : CW, u53 = nO u9 19 2 →
      call 161 [ar (cz u9 + 1), ai x5_7] u53 (zqV (fun u55 =>
        Q (cz u9 + 1) u55) zno)) ∧
    (¬ (x4 = 0) →
      ((111 ≤ tg u9 x3 ∧ tg u9 x3 ≤ 119) ∧ 0 ≤ (0 : Int) ∧ (0 : Int) < ln u9 x3) ∧
      (hF 91 (tg u9 x0) = true) ∧
      (hF 94 (tg u9 x0) = true) ∧
      (tg u9 (aR u9 x3 0) = 14) ∧
      call 127 [ar (aR u9 x3 0), ar (fR u9 91 x0), ar (fR u9 94 x0)] u9 (zqI (fun v16 u15 =>
        (v16 = 0 →
          (tg u15 x0 = 16) ∧
          call 134 [ar x0, ai x5_7, ar x3, ai x4] u15 (zqR (fun v48 u47 =>
            Q v48 u47) (fun x49 u50 =>
            X x49 u50))) ∧
        (¬ (v16 = 0) →
          (tg u15 x0 = 16) ∧
          call 135 [ar x0, ar x3, ai x4, ai v16] u15 (zqR (fun v19 u18 =>
            (hF 88 (tg u18 v19) = true) ∧
            ((fI u18 88 v19) < 3 →
              (hF 88 (tg u18 v19) = true) ∧
              ((fI u18 88 v19) = 1 →
                (tg u18 x0 = 16) ∧
                call 144 [ar x0, ai x5_7, ar v19, ar x3, ai x4] u18 (zqR (fun v37 u36 =>
                  pC_X18_make_216 p call Q X v37 u36) (fun x38 u39 =>
                  X x38 u39))) ∧
              (¬ ((fI u18 88 v19) = 1) →
                (hF 88 (tg u18 v19) = true) ∧
                ((fI u18 88 v19) = 2 →
                  (tg u18 x0 = 16) ∧
                  call 145 [ar x0, ai x5_7, ar v19, ar x3, ai x4] u18 (zqR (fun v32 u31 =>
                    pC_X18_make_216 p call Q X v32 u31) (fun x33 u34 =>
                    X x33 u34))) ∧
                (¬ ((fI u18 88 v19) = 2) →
                  (tg u18 x0 = 16) ∧
                  call 147 [ar x0, ai x5_7, ar v19, ar x3, ai x4] u18 (zqR (fun v27 u26 =>
                    pC_X18_make_216 p call Q X v27 u26) (fun x28 u29 =>
                    X x28 u29))))) ∧
            (¬ ((fI u18 88 v19) < 3) →
              (tg u18 x0 = 16) ∧
              call 142 [ar x0, ai x5_7, ar v19, ar x3, ai x4] u18 (zqR (fun v42 u41 =>
                Q v42 u41) (fun x43 u44 =>
                X x43 u44)))) zno))) zno)))
def pC_X18_make_42 (p : Nat) (call : Nat → List ZA → CW → (ZRes → CW → Prop) → Prop) (Q : Nat → CW → Prop) (X : Nat → CW → Prop) (I11 : Int → Int → CW → Prop) (x0 : Nat) (x1 : Nat) (x2 : Int) (x3 : Nat) (x4 : Int) (x5 : Int) (w : CW) : Prop :=
  ∀ x5_67 : Int, x5_67 = w32 (x5 + 1) →
  I11 x4 x5_67 w
def pC_X18_make_11 (p : Nat) (call : Nat → List ZA → CW → (ZRes → CW → Prop) → Prop) (Q : Nat → CW → Prop) (X : Nat → CW → Prop) (x0 : Nat) (x1 : Nat) (x2 : Int) (x3 : Nat) (x4 : Int) (x5 : Int) (w : CW) : Prop :=
  ∀ I11 : Int → Int → CW → Prop, (∀ (x4 : Int) (x5 : Int) (w : CW), (
    (x2 ≤ x5 →
      pC_X18_make_48 p call Q X x0 x3 x4 w) ∧
    (¬ (x2 ≤ x5) →
      ((111 ≤ tg w x1 ∧ tg w x1 ≤ 119) ∧ 0 ≤ x5 ∧ x5 < ln w x1) ∧
      (hF 91 (tg w x0) = true) ∧
      (tg w (aR w x1 x5) = 14) ∧
      call 126 [ar (aR w x1 x5), ar (fR w 91 x0)] w (zqI (fun v65 u64 =>
        (v65 = 0 →
          ((111 ≤ tg u64 x1 ∧ tg u64 x1 ≤ 119) ∧ 0 ≤ x5 ∧ x5 < ln u64 x1) ∧
          ((111 ≤ tg u64 x3 ∧ tg u64 x3 ≤ 119) ∧ 0 ≤ x4 ∧ x4 < ln u64 x3) ∧
          ((aR u64 x1 x5) = 0 ∨ zst (tg u64 x3) (tg u64 (aR u64 x1 x5)) = true) ∧
          ∀ u69 : CW, u69 = qR u64 x3 x4 (aR u64 x1 x5) →
          ∀ x4_72 : Int, x4_72 = w32 (x4 + 1) →
          pC_X18_make_42 p call Q X I11 x0 x1 x2 x3 x4_72 x5 u69) ∧
        (¬ (v65 = 0) →
          pC_X18_make_42 p call Q X I11 x0 x1 x2 x3 x4 x5 u64)) zno))) → I11 x4 x5 w) → I11 x4 x5 w
def pC_X18_make_0 (p : Nat) (call : Nat → List ZA → CW → (ZRes → CW → Prop) → Prop) (Q : Nat → CW → Prop) (X : Nat → CW → Prop) (x0 : Nat) (x1 : Nat) (x2 : Int) (w : CW) : Prop :=
  ((0 ≤ x2 ∧ x2 ≤ 1000000) ∧ cz w + 1 ≤ mz w ∧ cu w + Int.toNat x2 ≤ mu w) ∧
  ∀ u1 : CW, u1 = nA w 116 (Int.toNat x2) →
  pC_X18_make_11 p call Q X x0 x1 x2 (cz w + 1) 0 0 u1
/-! LetterPost$Maker.ends(I[LLetterPost$Row;I)LLetterPost$Node; -/
def pC_X18_ends_90 (p : Nat) (call : Nat → List ZA → CW → (ZRes → CW → Prop) → Prop) (Q : Nat → CW → Prop) (X : Nat → CW → Prop) (x0 : Nat) (x5 : Nat) (x6 : Nat) (x7 : Int) (w : CW) : Prop :=
  ((0 ≤ (1 : Int) ∧ (1 : Int) ≤ 1000000) ∧ cz w + 1 ≤ mz w ∧ cu w + Int.toNat 1 ≤ mu w) ∧
  ∀ u13 : CW, u13 = nA w 113 (Int.toNat 1) →
  (tg u13 x0 = 16) ∧
  call 133 [ar x0, ar x6, ai x7] u13 (zqR (fun v16 u15 =>
    ((111 ≤ tg u15 (cz w + 1) ∧ tg u15 (cz w + 1) ≤ 119) ∧ 0 ≤ (0 : Int) ∧ (0 : Int) < ln u15 (cz w + 1)) ∧
    (v16 = 0 ∨ zst (tg u15 (cz w + 1)) (tg u15 v16) = true) ∧
    ∀ u17 : CW, u17 = qR u15 (cz w + 1) 0 v16 →
    (hP 107 (tg u17 x5) = true) ∧
    ∀ u20 : CW, u20 = pR u17 107 x5 (cz w + 1) →
    Q x5 u20) (fun x22 u23 =>
    X x22 u23))
def pC_X18_ends_84 (p : Nat) (call : Nat → List ZA → CW → (ZRes → CW → Prop) → Prop) (Q : Nat → CW → Prop) (X : Nat → CW → Prop) (I51 : Int → Int → CW → Prop) (x0 : Nat) (x2 : Nat) (x3 : Int) (x4 : Nat) (x5 : Nat) (x6 : Nat) (x7 : Int) (x8 : Int) (w : CW) : Prop :=
  ∀ x8_29 : Int, x8_29 = w32 (x8 + 1) →
  I51 x7 x8_29 w
def pC_X18_ends_51 (p : Nat) (call : Nat → List ZA → CW → (ZRes → CW → Prop) → Prop) (Q : Nat → CW → Prop) (X : Nat → CW → Prop) (x0 : Nat) (x2 : Nat) (x3 : Int) (x4 : Nat) (x5 : Nat) (x6 : Nat) (x7 : Int) (x8 : Int) (w : CW) : Prop :=
  ∀ I51 : Int → Int → CW → Prop, (∀ (x7 : Int) (x8 : Int) (w : CW), (
    (x3 ≤ x8 →
      pC_X18_ends_90 p call Q X x0 x5 x6 x7 w) ∧
    (¬ (x3 ≤ x8) →
      ((111 ≤ tg w x2 ∧ tg w x2 ≤ 119) ∧ 0 ≤ x8 ∧ x8 < ln w x2) ∧
      (hF 80 (tg w (aR w x2 x8)) = true) ∧
      (hF 80 (tg w x4) = true) ∧
      ((fR w 80 (aR w x2 x8)) = (fR w 80 x4) →
        pC_X18_ends_84 p call Q X I51 x0 x2 x3 x4 x5 x6 x7 x8 w) ∧
      (¬ ((fR w 80 (aR w x2 x8)) = (fR w 80 x4)) →
        ((111 ≤ tg w x2 ∧ tg w x2 ≤ 119) ∧ 0 ≤ x8 ∧ x8 < ln w x2) ∧
        ((111 ≤ tg w x6 ∧ tg w x6 ≤ 119) ∧ 0 ≤ x7 ∧ x7 < ln w x6) ∧
        ((aR w x2 x8) = 0 ∨ zst (tg w x6) (tg w (aR w x2 x8)) = true) ∧
        ∀ u31 : CW, u31 = qR w x6 x7 (aR w x2 x8) →
        ∀ x7_34 : Int, x7_34 = w32 (x7 + 1) →
        pC_X18_ends_84 p call Q X I51 x0 x2 x3 x4 x5 x6 x7_34 x8 u31))) → I51 x7 x8 w) → I51 x7 x8 w
def pC_X18_ends_0 (p : Nat) (call : Nat → List ZA → CW → (ZRes → CW → Prop) → Prop) (Q : Nat → CW → Prop) (X : Nat → CW → Prop) (x0 : Nat) (x1 : Int) (x2 : Nat) (x3 : Int) (w : CW) : Prop :=
  ((111 ≤ tg w x2 ∧ tg w x2 ≤ 119) ∧ 0 ≤ (0 : Int) ∧ (0 : Int) < ln w x2) ∧
  ∀ x4_2 : Nat, x4_2 = aR w x2 0 →
  (hF 80 (tg w x4_2) = true) ∧
  (hF 59 (tg w (fR w 80 x4_2)) = true) ∧
  ((fR w 59 (fR w 80 x4_2)) = 0 →
    (cz w + 1 ≤ mz w ∧ cu w + 3 ≤ mu w) ∧
    ∀ u35 : CW, u35 = nO w 20 3 →
    call 162 [ar (cz w + 1), ai x1, ar x4_2] u35 (zqV (fun u37 =>
      Q (cz w + 1) u37) zno)) ∧
  (¬ ((fR w 59 (fR w 80 x4_2)) = 0) →
    (cz w + 1 ≤ mz w ∧ cu w + 3 ≤ mu w) ∧
    ∀ u6 : CW, u6 = nO w 21 3 →
    call 166 [ar (cz w + 1), ai x1, ar x4_2] u6 (zqV (fun u8 =>
      ((0 ≤ x3 ∧ x3 ≤ 1000000) ∧ cz u8 + 1 ≤ mz u8 ∧ cu u8 + Int.toNat x3 ≤ mu u8) ∧
      ∀ u10 : CW, u10 = nA u8 116 (Int.toNat x3) →
      pC_X18_ends_51 p call Q X x0 x2 x3 x4_2 (cz w + 1) (cz u8 + 1) 0 1 u10) zno))
/-! LetterPost$Maker.chosen([LLetterPost$Row;II)LLetterPost$Place; -/
def pC_X18_chosen_115 (p : Nat) (call : Nat → List ZA → CW → (ZRes → CW → Prop) → Prop) (Q : Nat → CW → Prop) (I23 : Int → Int → CW → Prop) (x0 : Nat) (x1 : Nat) (x2 : Int) (x3 : Int) (x4 : Int) (x5 : Int) (s0 : Int) (w : CW) : Prop :=
  ∀ v15 : Int, v15 = (if ¬ (s0 = 0) then x5 else x4) →
  ∀ x5_16 : Int, x5_16 = w32 (x5 + 1) →
  I23 v15 x5_16 w
def pC_X18_chosen_137 (p : Nat) (call : Nat → List ZA → CW → (ZRes → CW → Prop) → Prop) (Q : Nat → CW → Prop) (x0 : Nat) (x4 : Int) (w : CW) : Prop :=
  (hF 94 (tg w x0) = true) ∧
  ((111 ≤ tg w (fR w 94 x0) ∧ tg w (fR w 94 x0) ≤ 119) ∧ 0 ≤ x4 ∧ x4 < ln w (fR w 94 x0)) ∧
  Q (aR w (fR w 94 x0) x4) w
def pC_X18_chosen_23 (p : Nat) (call : Nat → List ZA → CW → (ZRes → CW → Prop) → Prop) (Q : Nat → CW → Prop) (x0 : Nat) (x1 : Nat) (x2 : Int) (x3 : Int) (x4 : Int) (x5 : Int) (w : CW) : Prop :=
  ∀ I23 : Int → Int → CW → Prop, (∀ (x4 : Int) (x5 : Int) (w : CW), (
    ((¬ (x3 ≤ x5) → (hF 92 (tg w x0) = true))) ∧
    (¬ (x3 ≤ x5) ∧ (¬ ((fI w 92 x0) ≤ 0)) →
      (hF 92 (tg w x0) = true) ∧
      ((fI w 92 x0) = 1 →
        (hF 94 (tg w x0) = true) ∧
        ((111 ≤ tg w (fR w 94 x0) ∧ tg w (fR w 94 x0) ≤ 119) ∧ 0 ≤ x5 ∧ x5 < ln w (fR w 94 x0)) ∧
        (tg w x0 = 16) ∧
        call 136 [ar x0, ar x1, ai x2, ar (aR w (fR w 94 x0) x5)] w (zqI (fun v24 u23 =>
          (hF 94 (tg u23 x0) = true) ∧
          ((111 ≤ tg u23 (fR u23 94 x0) ∧ tg u23 (fR u23 94 x0) ≤ 119) ∧ 0 ≤ x4 ∧ x4 < ln u23 (fR u23 94 x0)) ∧
          (tg u23 x0 = 16) ∧
          call 136 [ar x0, ar x1, ai x2, ar (aR u23 (fR u23 94 x0) x4)] u23 (zqI (fun v28 u27 =>
            (v24 ≤ v28 →
              pC_X18_chosen_115 p call Q I23 x0 x1 x2 x3 x4 x5 0 u27) ∧
            (¬ (v24 ≤ v28) →
              pC_X18_chosen_115 p call Q I23 x0 x1 x2 x3 x4 x5 1 u27)) zno)) zno)) ∧
      (¬ ((fI w 92 x0) = 1) →
        (hF 94 (tg w x0) = true) ∧
        ((111 ≤ tg w (fR w 94 x0) ∧ tg w (fR w 94 x0) ≤ 119) ∧ 0 ≤ x5 ∧ x5 < ln w (fR w 94 x0)) ∧
        (tg w x0 = 16) ∧
        call 137 [ar x0, ar x1, ai x2, ar (aR w (fR w 94 x0) x5)] w (zqI (fun v9 u8 =>
          (hF 94 (tg u8 x0) = true) ∧
          ((111 ≤ tg u8 (fR u8 94 x0) ∧ tg u8 (fR u8 94 x0) ≤ 119) ∧ 0 ≤ x4 ∧ x4 < ln u8 (fR u8 94 x0)) ∧
          (tg u8 x0 = 16) ∧
          call 137 [ar x0, ar x1, ai x2, ar (aR u8 (fR u8 94 x0) x4)] u8 (zqI (fun v13 u12 =>
            (v13 ≤ v9 →
              pC_X18_chosen_115 p call Q I23 x0 x1 x2 x3 x4 x5 0 u12) ∧
            (¬ (v13 ≤ v9) →
              pC_X18_chosen_115 p call Q I23 x0 x1 x2 x3 x4 x5 1 u12)) zno)) zno))) ∧
    (¬ (¬ (x3 ≤ x5) ∧ (¬ ((fI w 92 x0) ≤ 0))) →
      pC_X18_chosen_137 p call Q x0 x4 w)) → I23 x4 x5 w) → I23 x4 x5 w
def pC_X18_chosen_0 (p : Nat) (call : Nat → List ZA → CW → (ZRes → CW → Prop) → Prop) (Q : Nat → CW → Prop) (x0 : Nat) (x1 : Nat) (x2 : Int) (x3 : Int) (w : CW) : Prop :=
  (hF 92 (tg w x0) = true) ∧
  ((fI w 92 x0) = 3 →
    (hF 94 (tg w x0) = true) ∧
    ((111 ≤ tg w (fR w 94 x0) ∧ tg w (fR w 94 x0) ≤ 119) ∧ 0 ≤ (w32 (x3 - 1)) ∧ (w32 (x3 - 1)) < ln w (fR w 94 x0)) ∧
    Q (aR w (fR w 94 x0) (w32 (x3 - 1))) w) ∧
  (¬ ((fI w 92 x0) = 3) →
    pC_X18_chosen_23 p call Q x0 x1 x2 x3 0 1 w)
/-! LetterPost$Maker.wanted([LLetterPost$Row;ILLetterPost$Place;)I -/
def pC_X18_wanted_43 (p : Nat) (call : Nat → List ZA → CW → (ZRes → CW → Prop) → Prop) (Q : Int → CW → Prop) (x4 : Int) (w : CW) : Prop :=
  Q x4 w
def pC_X18_wanted_6 (p : Nat) (call : Nat → List ZA → CW → (ZRes → CW → Prop) → Prop) (Q : Int → CW → Prop) (x0 : Nat) (x1 : Nat) (x2 : Int) (x3 : Nat) (x4 : Int) (x5 : Int) (w : CW) : Prop :=
  ∀ I6 : Int → Int → CW → Prop, (∀ (x4 : Int) (x5 : Int) (w : CW), (
    (x2 ≤ x5 →
      pC_X18_wanted_43 p call Q x4 w) ∧
    (¬ (x2 ≤ x5) →
      ((111 ≤ tg w x1 ∧ tg w x1 ≤ 119) ∧ 0 ≤ x5 ∧ x5 < ln w x1) ∧
      (hF 91 (tg w x0) = true) ∧
      (tg w (aR w x1 x5) = 14) ∧
      call 128 [ar (aR w x1 x5), ar (fR w 91 x0), ar x3] w (zqR (fun v5 u4 =>
        ∀ v6 : Int, v6 = (if ¬ (v5 = 0) then 1 else 0) →
        ∀ x4_7 : Int, x4_7 = w32 (x4 + v6) →
        ∀ x5_8 : Int, x5_8 = w32 (x5 + 1) →
        I6 x4_7 x5_8 u4) zno))) → I6 x4 x5 w) → I6 x4 x5 w
def pC_X18_wanted_0 (p : Nat) (call : Nat → List ZA → CW → (ZRes → CW → Prop) → Prop) (Q : Int → CW → Prop) (x0 : Nat) (x1 : Nat) (x2 : Int) (x3 : Nat) (w : CW) : Prop :=
  pC_X18_wanted_6 p call Q x0 x1 x2 x3 0 0 w
/-! LetterPost$Maker.branches([LLetterPost$Row;ILLetterPost$Place;)I -/
def pC_X18_branches_60 (p : Nat) (call : Nat → List ZA → CW → (ZRes → CW → Prop) → Prop) (Q : Int → CW → Prop) (s0 : Int) (w : CW) : Prop :=
  Q s0 w
def pC_X18_branches_0 (p : Nat) (call : Nat → List ZA → CW → (ZRes → CW → Prop) → Prop) (Q : Int → CW → Prop) (x0 : Nat) (x1 : Nat) (x2 : Int) (x3 : Nat) (w : CW) : Prop :=
  (hF 88 (tg w x3) = true) ∧
  ((fI w 88 x3) < 3 →
    (hF 88 (tg w x3) = true) ∧
    ((fI w 88 x3) = 1 →
      pC_X18_branches_60 p call Q 2 w) ∧
    (¬ ((fI w 88 x3) = 1) →
      (hF 88 (tg w x3) = true) ∧
      ((fI w 88 x3) = 2 →
        (tg w x0 = 16) ∧
        call 139 [ar x0, ar x1, ai x2, ar x3] w (zqI (fun v11 u10 =>
          pC_X18_branches_60 p call Q (w32 (v11 + 1)) u10) zno)) ∧
      (¬ ((fI w 88 x3) = 2) →
        (tg w x0 = 16) ∧
        call 140 [ar x0, ar x1, ai x2, ar x3] w (zqI (fun v8 u7 =>
          pC_X18_branches_60 p call Q v8 u7) zno)))) ∧
  (¬ ((fI w 88 x3) < 3) →
    (hF 88 (tg w x3) = true) ∧
    (tg w x0 = 16) ∧
    call 138 [ar x0, ai (fI w 88 x3)] w (zqI (fun v15 u14 =>
      pC_X18_branches_60 p call Q (w32 (v15 + 1)) u14) zno))
/-! LetterPost$Maker.leafMany(I)I -/
def pC_X18_leafMany_67 (p : Nat) (call : Nat → List ZA → CW → (ZRes → CW → Prop) → Prop) (Q : Int → CW → Prop) (x2 : Int) (w : CW) : Prop :=
  Q x2 w
def pC_X18_leafMany_59 (p : Nat) (call : Nat → List ZA → CW → (ZRes → CW → Prop) → Prop) (Q : Int → CW → Prop) (I4 : Int → Int → CW → Prop) (x0 : Nat) (x1 : Int) (x3 : Int) (s0 : Int) (s1 : Int) (w : CW) : Prop :=
  ∀ x2_9 : Int, x2_9 = w32 (s1 + s0) →
  ∀ x3_10 : Int, x3_10 = w32 (x3 + 1) →
  I4 x2_9 x3_10 w
def pC_X18_leafMany_58 (p : Nat) (call : Nat → List ZA → CW → (ZRes → CW → Prop) → Prop) (Q : Int → CW → Prop) (I4 : Int → Int → CW → Prop) (x0 : Nat) (x1 : Int) (x3 : Int) (s0 : Int) (w : CW) : Prop :=
  pC_X18_leafMany_59 p call Q I4 x0 x1 x3 0 s0 w
def pC_X18_leafMany_4 (p : Nat) (call : Nat → List ZA → CW → (ZRes → CW → Prop) → Prop) (Q : Int → CW → Prop) (x0 : Nat) (x1 : Int) (x2 : Int) (x3 : Int) (w : CW) : Prop :=
  ∀ I4 : Int → Int → CW → Prop, (∀ (x2 : Int) (x3 : Int) (w : CW), (
    (hF 97 (tg w x0) = true) ∧
    (hF 1 (tg w (fR w 97 x0)) = true) ∧
    ((fI w 1 (fR w 97 x0)) ≤ x3 →
      pC_X18_leafMany_67 p call Q x2 w) ∧
    (¬ ((fI w 1 (fR w 97 x0)) ≤ x3) →
      (hF 97 (tg w x0) = true) ∧
      (hF 0 (tg w (fR w 97 x0)) = true) ∧
      ((111 ≤ tg w (fR w 0 (fR w 97 x0)) ∧ tg w (fR w 0 (fR w 97 x0)) ≤ 119) ∧ 0 ≤ x3 ∧ x3 < ln w (fR w 0 (fR w 97 x0))) ∧
      (hF 40 (tg w (aR w (fR w 0 (fR w 97 x0)) x3)) = true) ∧
      ((fI w 40 (aR w (fR w 0 (fR w 97 x0)) x3)) = 0 →
        (hF 97 (tg w x0) = true) ∧
        (hF 0 (tg w (fR w 97 x0)) = true) ∧
        ((111 ≤ tg w (fR w 0 (fR w 97 x0)) ∧ tg w (fR w 0 (fR w 97 x0)) ≤ 119) ∧ 0 ≤ x3 ∧ x3 < ln w (fR w 0 (fR w 97 x0))) ∧
        (hF 97 (tg w x0) = true) ∧
        (tg w (fR w 97 x0) = 1) ∧
        call 31 [ar (fR w 97 x0), ai x1] w (zqR (fun v16 u15 =>
          (tg u15 (aR w (fR w 0 (fR w 97 x0)) x3) = 3) ∧
          call 83 [ar (aR w (fR w 0 (fR w 97 x0)) x3), ar v16] u15 (zqI (fun v18 u17 =>
            (v18 = 0 →
              pC_X18_leafMany_58 p call Q I4 x0 x1 x3 x2 u17) ∧
            (¬ (v18 = 0) →
              pC_X18_leafMany_59 p call Q I4 x0 x1 x3 1 x2 u17)) zno)) zno)) ∧
      (¬ ((fI w 40 (aR w (fR w 0 (fR w 97 x0)) x3)) = 0) →
        pC_X18_leafMany_58 p call Q I4 x0 x1 x3 x2 w))) → I4 x2 x3 w) → I4 x2 x3 w
def pC_X18_leafMany_0 (p : Nat) (call : Nat → List ZA → CW → (ZRes → CW → Prop) → Prop) (Q : Int → CW → Prop) (x0 : Nat) (x1 : Int) (w : CW) : Prop :=
  pC_X18_leafMany_4 p call Q x0 x1 0 0 w
/-! LetterPost$Maker.textMany([LLetterPost$Row;ILLetterPost$Place;)I -/
def pC_X18_textMany_113 (p : Nat) (call : Nat → List ZA → CW → (ZRes → CW → Prop) → Prop) (Q : Int → CW → Prop) (x4 : Int) (w : CW) : Prop :=
  Q x4 w
def pC_X18_textMany_107 (p : Nat) (call : Nat → List ZA → CW → (ZRes → CW → Prop) → Prop) (Q : Int → CW → Prop) (I6 : Int → Int → CW → Prop) (x0 : Nat) (x1 : Nat) (x2 : Int) (x3 : Nat) (x4 : Int) (x5 : Int) (w : CW) : Prop :=
  ∀ x5_7 : Int, x5_7 = w32 (x5 + 1) →
  I6 x4 x5_7 w
def pC_X18_textMany_83 (p : Nat) (call : Nat → List ZA → CW → (ZRes → CW → Prop) → Prop) (Q : Int → CW → Prop) (I6 : Int → Int → CW → Prop) (x0 : Nat) (x1 : Nat) (x2 : Int) (x3 : Nat) (x4 : Int) (x5 : Int) (x7 : Int) (x9 : Int) (w : CW) : Prop :=
  (hF 95 (tg w x0) = true) ∧
  (tg w (fR w 95 x0) = 103 ∧ 0 ≤ x4 ∧ x4 < ln w (fR w 95 x0)) ∧
  ∀ u13 : CW, u13 = qI w (fR w 95 x0) x4 x7 →
  ∀ v15 : Int, v15 = (if ¬ (x9 = 0) then 1 else 0) →
  ∀ x4_16 : Int, x4_16 = w32 (x4 + v15) →
  pC_X18_textMany_107 p call Q I6 x0 x1 x2 x3 x4_16 x5 u13
def pC_X18_textMany_47 (p : Nat) (call : Nat → List ZA → CW → (ZRes → CW → Prop) → Prop) (Q : Int → CW → Prop) (I6 : Int → Int → CW → Prop) (x0 : Nat) (x1 : Nat) (x2 : Int) (x3 : Nat) (x4 : Int) (x5 : Int) (x7 : Int) (x9 : Int) (x10 : Int) (w : CW) : Prop :=
  ∀ I47 : Int → Int → CW → Prop, (∀ (x9 : Int) (x10 : Int) (w : CW), (
    (x4 ≤ x10 →
      pC_X18_textMany_83 p call Q I6 x0 x1 x2 x3 x4 x5 x7 x9 w) ∧
    (¬ (x4 ≤ x10) →
      (hF 95 (tg w x0) = true) ∧
      (tg w (fR w 95 x0) = 103 ∧ 0 ≤ x10 ∧ x10 < ln w (fR w 95 x0)) ∧
      ∀ v21 : Int, v21 = (if ¬ ((aW w (fR w 95 x0) x10) = x7) then 1 else 0) →
      ∀ x9_22 : Int, x9_22 = i_and x9 v21 →
      ∀ x10_23 : Int, x10_23 = w32 (x10 + 1) →
      I47 x9_22 x10_23 w)) → I47 x9 x10 w) → I47 x9 x10 w
def pC_X18_textMany_6 (p : Nat) (call : Nat → List ZA → CW → (ZRes → CW → Prop) → Prop) (Q : Int → CW → Prop) (x0 : Nat) (x1 : Nat) (x2 : Int) (x3 : Nat) (x4 : Int) (x5 : Int) (w : CW) : Prop :=
  ∀ I6 : Int → Int → CW → Prop, (∀ (x4 : Int) (x5 : Int) (w : CW), (
    (x2 ≤ x5 →
      pC_X18_textMany_113 p call Q x4 w) ∧
    (¬ (x2 ≤ x5) →
      ((111 ≤ tg w x1 ∧ tg w x1 ≤ 119) ∧ 0 ≤ x5 ∧ x5 < ln w x1) ∧
      (hF 91 (tg w x0) = true) ∧
      (tg w (aR w x1 x5) = 14) ∧
      call 128 [ar (aR w x1 x5), ar (fR w 91 x0), ar x3] w (zqR (fun v5 u4 =>
        (v5 = 0 →
          pC_X18_textMany_107 p call Q I6 x0 x1 x2 x3 x4 x5 u4) ∧
        (¬ (v5 = 0) →
          (v5 = 0 ∨ zca (tg u4 v5) "LetterPost$Word" = true) ∧
          (hF 74 (tg u4 v5) = true) ∧
          ∀ x7_10 : Int, x7_10 = fI u4 74 v5 →
          pC_X18_textMany_47 p call Q I6 x0 x1 x2 x3 x4 x5 x7_10 1 0 u4)) zno))) → I6 x4 x5 w) → I6 x4 x5 w
def pC_X18_textMany_0 (p : Nat) (call : Nat → List ZA → CW → (ZRes → CW → Prop) → Prop) (Q : Int → CW → Prop) (x0 : Nat) (x1 : Nat) (x2 : Int) (x3 : Nat) (w : CW) : Prop :=
  pC_X18_textMany_6 p call Q x0 x1 x2 x3 0 0 w
/-! LetterPost$Maker.borderMany([LLetterPost$Row;ILLetterPost$Place;)I -/
def pC_X18_borderMany_129 (p : Nat) (call : Nat → List ZA → CW → (ZRes → CW → Prop) → Prop) (Q : Int → CW → Prop) (x0 : Nat) (x5 : Int) (x6 : Int) (w : CW) : Prop :=
  (hF 96 (tg w x0) = true) ∧
  (tg w x0 = 16) ∧
  call 141 [ar x0, ar (fR w 96 x0), ai x6, ai x5] w (zqI (fun v14 u13 =>
    Q v14 u13) zno)
def pC_X18_borderMany_123 (p : Nat) (call : Nat → List ZA → CW → (ZRes → CW → Prop) → Prop) (Q : Int → CW → Prop) (I34 : Int → Int → CW → Prop) (x0 : Nat) (x1 : Nat) (x2 : Int) (x3 : Nat) (x4 : Int) (x5 : Int) (x6 : Int) (x7 : Int) (w : CW) : Prop :=
  ∀ x7_31 : Int, x7_31 = w32 (x7 + 1) →
  I34 x6 x7_31 w
def pC_X18_borderMany_91 (p : Nat) (call : Nat → List ZA → CW → (ZRes → CW → Prop) → Prop) (Q : Int → CW → Prop) (I34 : Int → Int → CW → Prop) (x0 : Nat) (x1 : Nat) (x2 : Int) (x3 : Nat) (x4 : Int) (x5 : Int) (x6 : Int) (x7 : Int) (x8 : Nat) (w : CW) : Prop :=
  ((¬ (x8 = 0) → (hF 70 (tg w x8) = true))) ∧
  (¬ (x8 = 0) ∧ (¬ (x5 ≤ (fI w 70 x8))) →
    (hF 96 (tg w x0) = true) ∧
    (hF 70 (tg w x8) = true) ∧
    (tg w x0 = 16) ∧
    call 141 [ar x0, ar (fR w 96 x0), ai x6, ai (fI w 70 x8)] w (zqI (fun v30 u29 =>
      pC_X18_borderMany_123 p call Q I34 x0 x1 x2 x3 x4 x5 v30 x7 u29) zno)) ∧
  (¬ (¬ (x8 = 0) ∧ (¬ (x5 ≤ (fI w 70 x8)))) →
    pC_X18_borderMany_123 p call Q I34 x0 x1 x2 x3 x4 x5 x6 x7 w)
def pC_X18_borderMany_34 (p : Nat) (call : Nat → List ZA → CW → (ZRes → CW → Prop) → Prop) (Q : Int → CW → Prop) (x0 : Nat) (x1 : Nat) (x2 : Int) (x3 : Nat) (x4 : Int) (x5 : Int) (x6 : Int) (x7 : Int) (w : CW) : Prop :=
  ∀ I34 : Int → Int → CW → Prop, (∀ (x6 : Int) (x7 : Int) (w : CW), (
    (x2 ≤ x7 →
      pC_X18_borderMany_129 p call Q x0 x5 x6 w) ∧
    (¬ (x2 ≤ x7) →
      ((111 ≤ tg w x1 ∧ tg w x1 ≤ 119) ∧ 0 ≤ x7 ∧ x7 < ln w x1) ∧
      (hF 91 (tg w x0) = true) ∧
      (tg w (aR w x1 x7) = 14) ∧
      call 128 [ar (aR w x1 x7), ar (fR w 91 x0), ar x3] w (zqR (fun v19 u18 =>
        (v19 = 0 ∨ zca (tg u18 v19) "LetterPost$Range" = true) ∧
        ((¬ (v19 = 0) → (hF 69 (tg u18 v19) = true))) ∧
        (¬ (v19 = 0) ∧ (¬ ((fI u18 69 v19) ≤ x4)) →
          (hF 96 (tg u18 x0) = true) ∧
          (hF 69 (tg u18 v19) = true) ∧
          (tg u18 x0 = 16) ∧
          call 141 [ar x0, ar (fR u18 96 x0), ai x6, ai (w32 ((fI u18 69 v19) - 1))] u18 (zqI (fun v25 u24 =>
            pC_X18_borderMany_91 p call Q I34 x0 x1 x2 x3 x4 x5 v25 x7 v19 u24) zno)) ∧
        (¬ (¬ (v19 = 0) ∧ (¬ ((fI u18 69 v19) ≤ x4))) →
          pC_X18_borderMany_91 p call Q I34 x0 x1 x2 x3 x4 x5 x6 x7 v19 u18)) zno))) → I34 x6 x7 w) → I34 x6 x7 w
def pC_X18_borderMany_0 (p : Nat) (call : Nat → List ZA → CW → (ZRes → CW → Prop) → Prop) (Q : Int → CW → Prop) (x0 : Nat) (x1 : Nat) (x2 : Int) (x3 : Nat) (w : CW) : Prop :=
  (hF 91 (tg w x0) = true) ∧
  (hF 101 (tg w (fR w 91 x0)) = true) ∧
  (hF 89 (tg w x3) = true) ∧
  (tg w (fR w 101 (fR w 91 x0)) = 102 ∧ 0 ≤ (fI w 89 x3) ∧ (fI w 89 x3) < ln w (fR w 101 (fR w 91 x0))) ∧
  ∀ x4_5 : Int, x4_5 = aN w (fR w 101 (fR w 91 x0)) (fI w 89 x3) →
  (hF 91 (tg w x0) = true) ∧
  (hF 102 (tg w (fR w 91 x0)) = true) ∧
  (hF 89 (tg w x3) = true) ∧
  (tg w (fR w 102 (fR w 91 x0)) = 102 ∧ 0 ≤ (fI w 89 x3) ∧ (fI w 89 x3) < ln w (fR w 102 (fR w 91 x0))) ∧
  ∀ x5_10 : Int, x5_10 = aN w (fR w 102 (fR w 91 x0)) (fI w 89 x3) →
  pC_X18_borderMany_34 p call Q x0 x1 x2 x3 x4_5 x5_10 0 0 w
/-! LetterPost$Maker.put([III)I -/
def pC_X18_put_41 (p : Nat) (call : Nat → List ZA → CW → (ZRes → CW → Prop) → Prop) (Q : Int → CW → Prop) (x1 : Nat) (x2 : Int) (x3 : Int) (x4 : Int) (w : CW) : Prop :=
  ((0 ≤ x4 ∧ 0 ≤ (w32 (x4 + 1)) ∧ 0 ≤ (w32 (x2 - x4)) ∧ x4 + (w32 (x2 - x4)) ≤ ln w x1 ∧ (w32 (x4 + 1)) + (w32 (x2 - x4)) ≤ ln w x1) ∧ cpOk w x1 x4 x1 (w32 (x2 - x4))) ∧
  ∀ u4 : CW, u4 = qC w x1 x4 x1 (w32 (x4 + 1)) (w32 (x2 - x4)) →
  (tg u4 x1 = 102 ∧ 0 ≤ x4 ∧ x4 < ln u4 x1) ∧
  ∀ u6 : CW, u6 = qI u4 x1 x4 x3 →
  Q (w32 (x2 + 1)) u6
def pC_X18_put_24 (p : Nat) (call : Nat → List ZA → CW → (ZRes → CW → Prop) → Prop) (Q : Int → CW → Prop) (x1 : Nat) (x2 : Int) (x3 : Int) (x4 : Int) (w : CW) : Prop :=
  ((¬ (x4 ≤ 0) → (tg w x1 = 102 ∧ 0 ≤ (w32 (x4 - 1)) ∧ (w32 (x4 - 1)) < ln w x1))) ∧
  (¬ (x4 ≤ 0) ∧ ((aN w x1 (w32 (x4 - 1))) = x3) →
    Q x2 w) ∧
  (¬ (¬ (x4 ≤ 0) ∧ ((aN w x1 (w32 (x4 - 1))) = x3)) →
    pC_X18_put_41 p call Q x1 x2 x3 x4 w)
def pC_X18_put_3 (p : Nat) (call : Nat → List ZA → CW → (ZRes → CW → Prop) → Prop) (Q : Int → CW → Prop) (x1 : Nat) (x2 : Int) (x3 : Int) (x4 : Int) (w : CW) : Prop :=
  ∀ I3 : Int → CW → Prop, (∀ (x4 : Int) (w : CW), (
    ((¬ (x4 ≤ 0) → (tg w x1 = 102 ∧ 0 ≤ (w32 (x4 - 1)) ∧ (w32 (x4 - 1)) < ln w x1))) ∧
    (¬ (x4 ≤ 0) ∧ (¬ ((aN w x1 (w32 (x4 - 1))) ≤ x3)) →
      ∀ x4_2 : Int, x4_2 = w32 (x4 + (-1)) →
      I3 x4_2 w) ∧
    (¬ (¬ (x4 ≤ 0) ∧ (¬ ((aN w x1 (w32 (x4 - 1))) ≤ x3))) →
      pC_X18_put_24 p call Q x1 x2 x3 x4 w)) → I3 x4 w) → I3 x4 w
def pC_X18_put_0 (p : Nat) (call : Nat → List ZA → CW → (ZRes → CW → Prop) → Prop) (Q : Int → CW → Prop) (x1 : Nat) (x2 : Int) (x3 : Int) (w : CW) : Prop :=
  pC_X18_put_3 p call Q x1 x2 x3 x2 w
/-! LetterPost$Maker.byKind(ILLetterPost$Place;[LLetterPost$Row;I)LLetterPost$Node; -/
def pC_X18_byKind_125 (p : Nat) (call : Nat → List ZA → CW → (ZRes → CW → Prop) → Prop) (Q : Nat → CW → Prop) (X : Nat → CW → Prop) (x0 : Nat) (x5 : Nat) (x6 : Int) (w : CW) : Prop :=
  (hF 91 (tg w x0) = true) ∧
  (hF 98 (tg w (fR w 91 x0)) = true) ∧
  (tg w (fR w 98 (fR w 91 x0)) = 102 ∧ 0 ≤ x6 ∧ x6 < ln w (fR w 98 (fR w 91 x0))) ∧
  ∀ u21 : CW, u21 = qI w (fR w 98 (fR w 91 x0)) x6 0 →
  Q x5 u21
def pC_X18_byKind_44 (p : Nat) (call : Nat → List ZA → CW → (ZRes → CW → Prop) → Prop) (Q : Nat → CW → Prop) (X : Nat → CW → Prop) (x0 : Nat) (x3 : Nat) (x4 : Int) (x5 : Nat) (x6 : Int) (x7 : Int) (w : CW) : Prop :=
  ∀ I44 : Int → CW → Prop, (∀ (x7 : Int) (w : CW), (
    (hF 107 (tg w x5) = true) ∧
    (101 ≤ tg w (fR w 107 x5) ∧ tg w (fR w 107 x5) ≤ 119 ∧ (tg w (fR w 107 x5) < 107 ∨ 111 ≤ tg w (fR w 107 x5))) ∧
    (((ln w (fR w 107 x5) : Nat) : Int) ≤ x7 →
      pC_X18_byKind_125 p call Q X x0 x5 x6 w) ∧
    (¬ (((ln w (fR w 107 x5) : Nat) : Int) ≤ x7) →
      (hF 91 (tg w x0) = true) ∧
      (hF 98 (tg w (fR w 91 x0)) = true) ∧
      ∀ v25 : Int, v25 = (if x7 = 0 then 1 else 2) →
      (tg w (fR w 98 (fR w 91 x0)) = 102 ∧ 0 ≤ x6 ∧ x6 < ln w (fR w 98 (fR w 91 x0))) ∧
      ∀ u26 : CW, u26 = qI w (fR w 98 (fR w 91 x0)) x6 v25 →
      (hF 91 (tg u26 x0) = true) ∧
      (hF 99 (tg u26 (fR u26 91 x0)) = true) ∧
      ((¬ (x7 = 0) → (hF 110 (tg u26 x5) = true) ∧ ((111 ≤ tg u26 (fR u26 110 x5) ∧ tg u26 (fR u26 110 x5) ≤ 119) ∧ 0 ≤ (w32 (x7 - 1)) ∧ (w32 (x7 - 1)) < ln u26 (fR u26 110 x5)))) ∧
      ∀ v30 : Nat, v30 = (if x7 = 0 then 0 else aR u26 (fR u26 110 x5) (w32 (x7 - 1))) →
      ((111 ≤ tg u26 (fR u26 99 (fR u26 91 x0)) ∧ tg u26 (fR u26 99 (fR u26 91 x0)) ≤ 119) ∧ 0 ≤ x6 ∧ x6 < ln u26 (fR u26 99 (fR u26 91 x0))) ∧
      (v30 = 0 ∨ zst (tg u26 (fR u26 99 (fR u26 91 x0))) (tg u26 v30) = true) ∧
      ∀ u32 : CW, u32 = qR u26 (fR u26 99 (fR u26 91 x0)) x6 v30 →
      (hF 107 (tg u32 x5) = true) ∧
      (tg u32 x0 = 16) ∧
      call 133 [ar x0, ar x3, ai x4] u32 (zqR (fun v37 u36 =>
        ((111 ≤ tg u36 (fR u32 107 x5) ∧ tg u36 (fR u32 107 x5) ≤ 119) ∧ 0 ≤ x7 ∧ x7 < ln u36 (fR u32 107 x5)) ∧
        (v37 = 0 ∨ zst (tg u36 (fR u32 107 x5)) (tg u36 v37) = true) ∧
        ∀ u38 : CW, u38 = qR u36 (fR u32 107 x5) x7 v37 →
        ∀ x7_41 : Int, x7_41 = w32 (x7 + 1) →
        I44 x7_41 u38) (fun x42 u43 =>
        X x42 u43)))) → I44 x7 w) → I44 x7 w
def pC_X18_byKind_0 (p : Nat) (call : Nat → List ZA → CW → (ZRes → CW → Prop) → Prop) (Q : Nat → CW → Prop) (X : Nat → CW → Prop) (x0 : Nat) (x1 : Int) (x2 : Nat) (x3 : Nat) (x4 : Int) (w : CW) : Prop :=
  (cz w + 1 ≤ mz w ∧ cu w + 4 ≤ mu w) ∧
  ∀ u1 : CW, u1 = nO w 22 4 →
  (hF 88 (tg u1 x2) = true) ∧
  (tg u1 x0 = 16) ∧
  call 143 [ar x0, ai (fI u1 88 x2)] u1 (zqR (fun v5 u4 =>
    call 171 [ar (cz w + 1), ai x1, ar x2, ar v5] u4 (zqV (fun u6 =>
      (hF 110 (tg u6 (cz w + 1)) = true) ∧
      (101 ≤ tg u6 (fR u6 110 (cz w + 1)) ∧ tg u6 (fR u6 110 (cz w + 1)) ≤ 119 ∧ (tg u6 (fR u6 110 (cz w + 1)) < 107 ∨ 111 ≤ tg u6 (fR u6 110 (cz w + 1)))) ∧
      ((0 ≤ (w32 (((ln u6 (fR u6 110 (cz w + 1)) : Nat) : Int) + 1)) ∧ (w32 (((ln u6 (fR u6 110 (cz w + 1)) : Nat) : Int) + 1)) ≤ 1000000) ∧ cz u6 + 1 ≤ mz u6 ∧ cu u6 + Int.toNat (w32 (((ln u6 (fR u6 110 (cz w + 1)) : Nat) : Int) + 1)) ≤ mu u6) ∧
      ∀ u10 : CW, u10 = nA u6 113 (Int.toNat (w32 (((ln u6 (fR u6 110 (cz w + 1)) : Nat) : Int) + 1))) →
      (hP 107 (tg u10 (cz w + 1)) = true) ∧
      ∀ u12 : CW, u12 = pR u10 107 (cz w + 1) (cz u6 + 1) →
      (hF 89 (tg u12 x2) = true) ∧
      ∀ x6_15 : Int, x6_15 = fI u12 89 x2 →
      pC_X18_byKind_44 p call Q X x0 x3 x4 (cz w + 1) x6_15 0 u12) zno)) zno)
/-! LetterPost$Maker.leaves(I)[LLetterPost$Kind; -/
def pC_X18_leaves_88 (p : Nat) (call : Nat → List ZA → CW → (ZRes → CW → Prop) → Prop) (Q : Nat → CW → Prop) (x2 : Nat) (w : CW) : Prop :=
  Q x2 w
def pC_X18_leaves_82 (p : Nat) (call : Nat → List ZA → CW → (ZRes → CW → Prop) → Prop) (Q : Nat → CW → Prop) (I14 : Int → Int → CW → Prop) (x0 : Nat) (x1 : Int) (x2 : Nat) (x3 : Int) (x4 : Int) (w : CW) : Prop :=
  ∀ x4_13 : Int, x4_13 = w32 (x4 + 1) →
  I14 x3 x4_13 w
def pC_X18_leaves_14 (p : Nat) (call : Nat → List ZA → CW → (ZRes → CW → Prop) → Prop) (Q : Nat → CW → Prop) (x0 : Nat) (x1 : Int) (x2 : Nat) (x3 : Int) (x4 : Int) (w : CW) : Prop :=
  ∀ I14 : Int → Int → CW → Prop, (∀ (x3 : Int) (x4 : Int) (w : CW), (
    (hF 97 (tg w x0) = true) ∧
    (hF 1 (tg w (fR w 97 x0)) = true) ∧
    ((fI w 1 (fR w 97 x0)) ≤ x4 →
      pC_X18_leaves_88 p call Q x2 w) ∧
    (¬ ((fI w 1 (fR w 97 x0)) ≤ x4) →
      (hF 97 (tg w x0) = true) ∧
      (hF 0 (tg w (fR w 97 x0)) = true) ∧
      ((111 ≤ tg w (fR w 0 (fR w 97 x0)) ∧ tg w (fR w 0 (fR w 97 x0)) ≤ 119) ∧ 0 ≤ x4 ∧ x4 < ln w (fR w 0 (fR w 97 x0))) ∧
      (hF 40 (tg w (aR w (fR w 0 (fR w 97 x0)) x4)) = true) ∧
      ((fI w 40 (aR w (fR w 0 (fR w 97 x0)) x4)) = 0 →
        (hF 97 (tg w x0) = true) ∧
        (hF 0 (tg w (fR w 97 x0)) = true) ∧
        ((111 ≤ tg w (fR w 0 (fR w 97 x0)) ∧ tg w (fR w 0 (fR w 97 x0)) ≤ 119) ∧ 0 ≤ x4 ∧ x4 < ln w (fR w 0 (fR w 97 x0))) ∧
        (hF 97 (tg w x0) = true) ∧
        (tg w (fR w 97 x0) = 1) ∧
        call 31 [ar (fR w 97 x0), ai x1] w (zqR (fun v19 u18 =>
          (tg u18 (aR w (fR w 0 (fR w 97 x0)) x4) = 3) ∧
          call 83 [ar (aR w (fR w 0 (fR w 97 x0)) x4), ar v19] u18 (zqI (fun v21 u20 =>
            (v21 = 0 →
              pC_X18_leaves_82 p call Q I14 x0 x1 x2 x3 x4 u20) ∧
            (¬ (v21 = 0) →
              (hF 97 (tg u20 x0) = true) ∧
              (hF 0 (tg u20 (fR u20 97 x0)) = true) ∧
              ((111 ≤ tg u20 (fR u20 0 (fR u20 97 x0)) ∧ tg u20 (fR u20 0 (fR u20 97 x0)) ≤ 119) ∧ 0 ≤ x4 ∧ x4 < ln u20 (fR u20 0 (fR u20 97 x0))) ∧
              ((111 ≤ tg u20 x2 ∧ tg u20 x2 ≤ 119) ∧ 0 ≤ x3 ∧ x3 < ln u20 x2) ∧
              ((aR u20 (fR u20 0 (fR u20 97 x0)) x4) = 0 ∨ zst (tg u20 x2) (tg u20 (aR u20 (fR u20 0 (fR u20 97 x0)) x4)) = true) ∧
              ∀ u26 : CW, u26 = qR u20 x2 x3 (aR u20 (fR u20 0 (fR u20 97 x0)) x4) →
              ∀ x3_29 : Int, x3_29 = w32 (x3 + 1) →
              pC_X18_leaves_82 p call Q I14 x0 x1 x2 x3_29 x4 u26)) zno)) zno)) ∧
      (¬ ((fI w 40 (aR w (fR w 0 (fR w 97 x0)) x4)) = 0) →
        pC_X18_leaves_82 p call Q I14 x0 x1 x2 x3 x4 w))) → I14 x3 x4 w) → I14 x3 x4 w
def pC_X18_leaves_0 (p : Nat) (call : Nat → List ZA → CW → (ZRes → CW → Prop) → Prop) (Q : Nat → CW → Prop) (x0 : Nat) (x1 : Int) (w : CW) : Prop :=
  (tg w x0 = 16) ∧
  call 138 [ar x0, ai x1] w (zqI (fun v2 u1 =>
    ((0 ≤ v2 ∧ v2 ≤ 1000000) ∧ cz u1 + 1 ≤ mz u1 ∧ cu u1 + Int.toNat v2 ≤ mu u1) ∧
    ∀ u3 : CW, u3 = nA u1 112 (Int.toNat v2) →
    pC_X18_leaves_14 p call Q x0 x1 (cz u1 + 1) 0 0 u3) zno)
/-! LetterPost$Maker.byTruth(ILLetterPost$Place;[LLetterPost$Row;I)LLetterPost$Node; -/
def pC_X18_byTruth_66 (p : Nat) (call : Nat → List ZA → CW → (ZRes → CW → Prop) → Prop) (Q : Nat → CW → Prop) (X : Nat → CW → Prop) (x0 : Nat) (x2 : Nat) (x5 : Nat) (w : CW) : Prop :=
  (hF 91 (tg w x0) = true) ∧
  (hF 98 (tg w (fR w 91 x0)) = true) ∧
  (hF 89 (tg w x2) = true) ∧
  (tg w (fR w 98 (fR w 91 x0)) = 102 ∧ 0 ≤ (fI w 89 x2) ∧ (fI w 89 x2) < ln w (fR w 98 (fR w 91 x0))) ∧
  ∀ u13 : CW, u13 = qI w (fR w 98 (fR w 91 x0)) (fI w 89 x2) 0 →
  Q x5 u13
def pC_X18_byTruth_23 (p : Nat) (call : Nat → List ZA → CW → (ZRes → CW → Prop) → Prop) (Q : Nat → CW → Prop) (X : Nat → CW → Prop) (x0 : Nat) (x2 : Nat) (x3 : Nat) (x4 : Int) (x5 : Nat) (x6 : Int) (w : CW) : Prop :=
  ∀ I23 : Int → CW → Prop, (∀ (x6 : Int) (w : CW), (
    (2 ≤ x6 →
      pC_X18_byTruth_66 p call Q X x0 x2 x5 w) ∧
    (¬ (2 ≤ x6) →
      (hF 91 (tg w x0) = true) ∧
      (hF 98 (tg w (fR w 91 x0)) = true) ∧
      (hF 89 (tg w x2) = true) ∧
      (tg w (fR w 98 (fR w 91 x0)) = 102 ∧ 0 ≤ (fI w 89 x2) ∧ (fI w 89 x2) < ln w (fR w 98 (fR w 91 x0))) ∧
      ∀ u18 : CW, u18 = qI w (fR w 98 (fR w 91 x0)) (fI w 89 x2) (w32 (x6 + 1)) →
      (hF 107 (tg u18 x5) = true) ∧
      (tg u18 x0 = 16) ∧
      call 133 [ar x0, ar x3, ai x4] u18 (zqR (fun v22 u21 =>
        ((111 ≤ tg u21 (fR u18 107 x5) ∧ tg u21 (fR u18 107 x5) ≤ 119) ∧ 0 ≤ x6 ∧ x6 < ln u21 (fR u18 107 x5)) ∧
        (v22 = 0 ∨ zst (tg u21 (fR u18 107 x5)) (tg u21 v22) = true) ∧
        ∀ u23 : CW, u23 = qR u21 (fR u18 107 x5) x6 v22 →
        ∀ x6_26 : Int, x6_26 = w32 (x6 + 1) →
        I23 x6_26 u23) (fun x27 u28 =>
        X x27 u28)))) → I23 x6 w) → I23 x6 w
def pC_X18_byTruth_0 (p : Nat) (call : Nat → List ZA → CW → (ZRes → CW → Prop) → Prop) (Q : Nat → CW → Prop) (X : Nat → CW → Prop) (x0 : Nat) (x1 : Int) (x2 : Nat) (x3 : Nat) (x4 : Int) (w : CW) : Prop :=
  (cz w + 1 ≤ mz w ∧ cu w + 3 ≤ mu w) ∧
  ∀ u1 : CW, u1 = nO w 23 3 →
  call 174 [ar (cz w + 1), ai x1, ar x2] u1 (zqV (fun u3 =>
    ((0 ≤ (2 : Int) ∧ (2 : Int) ≤ 1000000) ∧ cz u3 + 1 ≤ mz u3 ∧ cu u3 + Int.toNat 2 ≤ mu u3) ∧
    ∀ u5 : CW, u5 = nA u3 113 (Int.toNat 2) →
    (hP 107 (tg u5 (cz w + 1)) = true) ∧
    ∀ u7 : CW, u7 = pR u5 107 (cz w + 1) (cz u3 + 1) →
    pC_X18_byTruth_23 p call Q X x0 x2 x3 x4 (cz w + 1) 0 u7) zno)
/-! LetterPost$Maker.byText(ILLetterPost$Place;[LLetterPost$Row;I)LLetterPost$Node; -/
def pC_X18_byText_193 (p : Nat) (call : Nat → List ZA → CW → (ZRes → CW → Prop) → Prop) (Q : Nat → CW → Prop) (X : Nat → CW → Prop) (x0 : Nat) (x3 : Nat) (x4 : Int) (x5 : Nat) (x6 : Int) (x7 : Int) (w : CW) : Prop :=
  (hF 107 (tg w x5) = true) ∧
  (tg w x0 = 16) ∧
  call 133 [ar x0, ar x3, ai x4] w (zqR (fun v26 u25 =>
    ((111 ≤ tg u25 (fR w 107 x5) ∧ tg u25 (fR w 107 x5) ≤ 119) ∧ 0 ≤ x6 ∧ x6 < ln u25 (fR w 107 x5)) ∧
    (v26 = 0 ∨ zst (tg u25 (fR w 107 x5)) (tg u25 v26) = true) ∧
    ∀ u27 : CW, u27 = qR u25 (fR w 107 x5) x6 v26 →
    (hF 91 (tg u27 x0) = true) ∧
    (hP 105 (tg u27 (fR u27 91 x0)) = true) ∧
    ∀ u31 : CW, u31 = pI u27 105 (fR u27 91 x0) x7 →
    Q x5 u31) (fun x33 u34 =>
    X x33 u34))
def pC_X18_byText_128 (p : Nat) (call : Nat → List ZA → CW → (ZRes → CW → Prop) → Prop) (Q : Nat → CW → Prop) (X : Nat → CW → Prop) (x0 : Nat) (x2 : Nat) (x3 : Nat) (x4 : Int) (x5 : Nat) (x6 : Int) (x7 : Int) (x8 : Int) (w : CW) : Prop :=
  ∀ I128 : Int → CW → Prop, (∀ (x8 : Int) (w : CW), (
    (x6 ≤ x8 →
      pC_X18_byText_193 p call Q X x0 x3 x4 x5 x6 x7 w) ∧
    (¬ (x6 ≤ x8) →
      (hF 91 (tg w x0) = true) ∧
      (hF 103 (tg w (fR w 91 x0)) = true) ∧
      (hF 91 (tg w x0) = true) ∧
      (hF 105 (tg w (fR w 91 x0)) = true) ∧
      ((111 ≤ tg w (fR w 103 (fR w 91 x0)) ∧ tg w (fR w 103 (fR w 91 x0)) ≤ 119) ∧ 0 ≤ (fI w 105 (fR w 91 x0)) ∧ (fI w 105 (fR w 91 x0)) < ln w (fR w 103 (fR w 91 x0))) ∧
      (x2 = 0 ∨ zst (tg w (fR w 103 (fR w 91 x0))) (tg w x2) = true) ∧
      ∀ u40 : CW, u40 = qR w (fR w 103 (fR w 91 x0)) (fI w 105 (fR w 91 x0)) x2 →
      (hF 91 (tg u40 x0) = true) ∧
      (hF 104 (tg u40 (fR u40 91 x0)) = true) ∧
      (hF 91 (tg u40 x0) = true) ∧
      (hF 105 (tg u40 (fR u40 91 x0)) = true) ∧
      (hF 111 (tg u40 x5) = true) ∧
      (tg u40 (fR u40 111 x5) = 103 ∧ 0 ≤ x8 ∧ x8 < ln u40 (fR u40 111 x5)) ∧
      (tg u40 (fR u40 104 (fR u40 91 x0)) = 103 ∧ 0 ≤ (fI u40 105 (fR u40 91 x0)) ∧ (fI u40 105 (fR u40 91 x0)) < ln u40 (fR u40 104 (fR u40 91 x0))) ∧
      ∀ u49 : CW, u49 = qI u40 (fR u40 104 (fR u40 91 x0)) (fI u40 105 (fR u40 91 x0)) (aW u40 (fR u40 111 x5) x8) →
      (hF 91 (tg u49 x0) = true) ∧
      (hF 105 (tg u49 (fR u49 91 x0)) = true) ∧
      (hP 105 (tg u49 (fR u49 91 x0)) = true) ∧
      ∀ u53 : CW, u53 = pI u49 105 (fR u49 91 x0) (w32 ((fI u49 105 (fR u49 91 x0)) + 1)) →
      ∀ x8_55 : Int, x8_55 = w32 (x8 + 1) →
      I128 x8_55 u53)) → I128 x8 w) → I128 x8 w
def pC_X18_byText_103 (p : Nat) (call : Nat → List ZA → CW → (ZRes → CW → Prop) → Prop) (Q : Nat → CW → Prop) (X : Nat → CW → Prop) (x0 : Nat) (x2 : Nat) (x3 : Nat) (x4 : Int) (x5 : Nat) (x6 : Int) (w : CW) : Prop :=
  (hF 91 (tg w x0) = true) ∧
  (hF 98 (tg w (fR w 91 x0)) = true) ∧
  (hF 89 (tg w x2) = true) ∧
  (tg w (fR w 98 (fR w 91 x0)) = 102 ∧ 0 ≤ (fI w 89 x2) ∧ (fI w 89 x2) < ln w (fR w 98 (fR w 91 x0))) ∧
  ∀ u18 : CW, u18 = qI w (fR w 98 (fR w 91 x0)) (fI w 89 x2) 0 →
  (hF 91 (tg u18 x0) = true) ∧
  (hF 105 (tg u18 (fR u18 91 x0)) = true) ∧
  ∀ x7_22 : Int, x7_22 = fI u18 105 (fR u18 91 x0) →
  pC_X18_byText_128 p call Q X x0 x2 x3 x4 x5 x6 x7_22 0 u18
def pC_X18_byText_42 (p : Nat) (call : Nat → List ZA → CW → (ZRes → CW → Prop) → Prop) (Q : Nat → CW → Prop) (X : Nat → CW → Prop) (x0 : Nat) (x2 : Nat) (x3 : Nat) (x4 : Int) (x5 : Nat) (x6 : Int) (x7 : Int) (w : CW) : Prop :=
  ∀ I42 : Int → CW → Prop, (∀ (x7 : Int) (w : CW), (
    (x6 ≤ x7 →
      pC_X18_byText_103 p call Q X x0 x2 x3 x4 x5 x6 w) ∧
    (¬ (x6 ≤ x7) →
      (hF 91 (tg w x0) = true) ∧
      (hF 98 (tg w (fR w 91 x0)) = true) ∧
      (hF 89 (tg w x2) = true) ∧
      (tg w (fR w 98 (fR w 91 x0)) = 102 ∧ 0 ≤ (fI w 89 x2) ∧ (fI w 89 x2) < ln w (fR w 98 (fR w 91 x0))) ∧
      ∀ u59 : CW, u59 = qI w (fR w 98 (fR w 91 x0)) (fI w 89 x2) 1 →
      (hF 91 (tg u59 x0) = true) ∧
      (hF 100 (tg u59 (fR u59 91 x0)) = true) ∧
      (hF 89 (tg u59 x2) = true) ∧
      (hF 111 (tg u59 x5) = true) ∧
      (tg u59 (fR u59 111 x5) = 103 ∧ 0 ≤ x7 ∧ x7 < ln u59 (fR u59 111 x5)) ∧
      (tg u59 (fR u59 100 (fR u59 91 x0)) = 103 ∧ 0 ≤ (fI u59 89 x2) ∧ (fI u59 89 x2) < ln u59 (fR u59 100 (fR u59 91 x0))) ∧
      ∀ u66 : CW, u66 = qI u59 (fR u59 100 (fR u59 91 x0)) (fI u59 89 x2) (aW u59 (fR u59 111 x5) x7) →
      (hF 107 (tg u66 x5) = true) ∧
      (tg u66 x0 = 16) ∧
      call 133 [ar x0, ar x3, ai x4] u66 (zqR (fun v70 u69 =>
        ((111 ≤ tg u69 (fR u66 107 x5) ∧ tg u69 (fR u66 107 x5) ≤ 119) ∧ 0 ≤ x7 ∧ x7 < ln u69 (fR u66 107 x5)) ∧
        (v70 = 0 ∨ zst (tg u69 (fR u66 107 x5)) (tg u69 v70) = true) ∧
        ∀ u71 : CW, u71 = qR u69 (fR u66 107 x5) x7 v70 →
        ∀ x7_74 : Int, x7_74 = w32 (x7 + 1) →
        I42 x7_74 u71) (fun x75 u76 =>
        X x75 u76)))) → I42 x7 w) → I42 x7 w
def pC_X18_byText_0 (p : Nat) (call : Nat → List ZA → CW → (ZRes → CW → Prop) → Prop) (Q : Nat → CW → Prop) (X : Nat → CW → Prop) (x0 : Nat) (x1 : Int) (x2 : Nat) (x3 : Nat) (x4 : Int) (w : CW) : Prop :=
  (cz w + 1 ≤ mz w ∧ cu w + 4 ≤ mu w) ∧
  ∀ u1 : CW, u1 = nO w 24 4 →
  (tg u1 x0 = 16) ∧
  call 146 [ar x0, ar x3, ai x4, ar x2] u1 (zqR (fun v4 u3 =>
    call 177 [ar (cz w + 1), ai x1, ar x2, ar v4] u3 (zqV (fun u5 =>
      (hF 111 (tg u5 (cz w + 1)) = true) ∧
      (101 ≤ tg u5 (fR u5 111 (cz w + 1)) ∧ tg u5 (fR u5 111 (cz w + 1)) ≤ 119 ∧ (tg u5 (fR u5 111 (cz w + 1)) < 107 ∨ 111 ≤ tg u5 (fR u5 111 (cz w + 1)))) ∧
      ∀ x6_9 : Int, x6_9 = ((ln u5 (fR u5 111 (cz w + 1)) : Nat) : Int) →
      ((0 ≤ (w32 (x6_9 + 1)) ∧ (w32 (x6_9 + 1)) ≤ 1000000) ∧ cz u5 + 1 ≤ mz u5 ∧ cu u5 + Int.toNat (w32 (x6_9 + 1)) ≤ mu u5) ∧
      ∀ u10 : CW, u10 = nA u5 113 (Int.toNat (w32 (x6_9 + 1))) →
      (hP 107 (tg u10 (cz w + 1)) = true) ∧
      ∀ u12 : CW, u12 = pR u10 107 (cz w + 1) (cz u5 + 1) →
      pC_X18_byText_42 p call Q X x0 x2 x3 x4 (cz w + 1) x6_9 0 u12) zno)) zno)
/-! LetterPost$Maker.texts([LLetterPost$Row;ILLetterPost$Place;)[J -/
def pC_X18_texts_0 (p : Nat) (call : Nat → List ZA → CW → (ZRes → CW → Prop) → Prop) (Q : Nat → CW → Prop) (x0 : Nat) (x1 : Nat) (x2 : Int) (x3 : Nat) (w : CW) : Prop :=
  (tg w x0 = 16) ∧
  call 139 [ar x0, ar x1, ai x2, ar x3] w (zqI (fun v2 u1 =>
    ((0 ≤ v2 ∧ v2 ≤ 1000000) ∧ cz u1 + 1 ≤ mz u1 ∧ cu u1 + Int.toNat v2 ≤ mu u1) ∧
    ∀ u3 : CW, u3 = nA u1 103 (Int.toNat v2) →
    (hF 95 (tg u3 x0) = true) ∧
    (101 ≤ tg u3 (cz u1 + 1) ∧ tg u3 (cz u1 + 1) ≤ 119 ∧ (tg u3 (cz u1 + 1) < 107 ∨ 111 ≤ tg u3 (cz u1 + 1))) ∧
    ((0 ≤ (0 : Int) ∧ 0 ≤ (0 : Int) ∧ 0 ≤ ((ln u3 (cz u1 + 1) : Nat) : Int) ∧ (0 : Int) + ((ln u3 (cz u1 + 1) : Nat) : Int) ≤ ln u3 (fR u3 95 x0) ∧ (0 : Int) + ((ln u3 (cz u1 + 1) : Nat) : Int) ≤ ln u3 (cz u1 + 1)) ∧ cpOk u3 (fR u3 95 x0) 0 (cz u1 + 1) ((ln u3 (cz u1 + 1) : Nat) : Int)) ∧
    ∀ u7 : CW, u7 = qC u3 (fR u3 95 x0) 0 (cz u1 + 1) 0 ((ln u3 (cz u1 + 1) : Nat) : Int) →
    Q (cz u1 + 1) u7) zno)
/-! LetterPost$Maker.byWhole(ILLetterPost$Place;[LLetterPost$Row;I)LLetterPost$Node; -/
def pC_X18_byWhole_150 (p : Nat) (call : Nat → List ZA → CW → (ZRes → CW → Prop) → Prop) (Q : Nat → CW → Prop) (X : Nat → CW → Prop) (x0 : Nat) (x2 : Nat) (x5 : Nat) (x6 : Int) (x7 : Int) (w : CW) : Prop :=
  (hF 91 (tg w x0) = true) ∧
  (hF 101 (tg w (fR w 91 x0)) = true) ∧
  (hF 89 (tg w x2) = true) ∧
  (tg w (fR w 101 (fR w 91 x0)) = 102 ∧ 0 ≤ (fI w 89 x2) ∧ (fI w 89 x2) < ln w (fR w 101 (fR w 91 x0))) ∧
  ∀ u29 : CW, u29 = qI w (fR w 101 (fR w 91 x0)) (fI w 89 x2) x6 →
  (hF 91 (tg u29 x0) = true) ∧
  (hF 102 (tg u29 (fR u29 91 x0)) = true) ∧
  (hF 89 (tg u29 x2) = true) ∧
  (tg u29 (fR u29 102 (fR u29 91 x0)) = 102 ∧ 0 ≤ (fI u29 89 x2) ∧ (fI u29 89 x2) < ln u29 (fR u29 102 (fR u29 91 x0))) ∧
  ∀ u34 : CW, u34 = qI u29 (fR u29 102 (fR u29 91 x0)) (fI u29 89 x2) x7 →
  Q x5 u34
def pC_X18_byWhole_64 (p : Nat) (call : Nat → List ZA → CW → (ZRes → CW → Prop) → Prop) (Q : Nat → CW → Prop) (X : Nat → CW → Prop) (x0 : Nat) (x2 : Nat) (x3 : Nat) (x4 : Int) (x5 : Nat) (x6 : Int) (x7 : Int) (x8 : Int) (w : CW) : Prop :=
  ∀ I64 : Int → CW → Prop, (∀ (x8 : Int) (w : CW), (
    (hF 107 (tg w x5) = true) ∧
    (101 ≤ tg w (fR w 107 x5) ∧ tg w (fR w 107 x5) ≤ 119 ∧ (tg w (fR w 107 x5) < 107 ∨ 111 ≤ tg w (fR w 107 x5))) ∧
    (((ln w (fR w 107 x5) : Nat) : Int) ≤ x8 →
      pC_X18_byWhole_150 p call Q X x0 x2 x5 x6 x7 w) ∧
    (¬ (((ln w (fR w 107 x5) : Nat) : Int) ≤ x8) →
      (hF 91 (tg w x0) = true) ∧
      (hF 101 (tg w (fR w 91 x0)) = true) ∧
      (hF 89 (tg w x2) = true) ∧
      ((¬ (x8 = 0) → (hF 112 (tg w x5) = true) ∧ (tg w (fR w 112 x5) = 102 ∧ 0 ≤ (w32 (x8 - 1)) ∧ (w32 (x8 - 1)) < ln w (fR w 112 x5)))) ∧
      ∀ v39 : Int, v39 = (if x8 = 0 then x6 else w32 ((aN w (fR w 112 x5) (w32 (x8 - 1))) + 1)) →
      (tg w (fR w 101 (fR w 91 x0)) = 102 ∧ 0 ≤ (fI w 89 x2) ∧ (fI w 89 x2) < ln w (fR w 101 (fR w 91 x0))) ∧
      ∀ u41 : CW, u41 = qI w (fR w 101 (fR w 91 x0)) (fI w 89 x2) v39 →
      (hF 91 (tg u41 x0) = true) ∧
      (hF 102 (tg u41 (fR u41 91 x0)) = true) ∧
      (hF 89 (tg u41 x2) = true) ∧
      (hF 112 (tg u41 x5) = true) ∧
      (tg u41 (fR u41 112 x5) = 102 ∧ 0 ≤ x8 ∧ x8 < ln u41 (fR u41 112 x5)) ∧
      (tg u41 (fR u41 102 (fR u41 91 x0)) = 102 ∧ 0 ≤ (fI u41 89 x2) ∧ (fI u41 89 x2) < ln u41 (fR u41 102 (fR u41 91 x0))) ∧
      ∀ u48 : CW, u48 = qI u41 (fR u41 102 (fR u41 91 x0)) (fI u41 89 x2) (aN u41 (fR u41 112 x5) x8) →
      (hF 107 (tg u48 x5) = true) ∧
      (tg u48 x0 = 16) ∧
      call 133 [ar x0, ar x3, ai x4] u48 (zqR (fun v52 u51 =>
        ((111 ≤ tg u51 (fR u48 107 x5) ∧ tg u51 (fR u48 107 x5) ≤ 119) ∧ 0 ≤ x8 ∧ x8 < ln u51 (fR u48 107 x5)) ∧
        (v52 = 0 ∨ zst (tg u51 (fR u48 107 x5)) (tg u51 v52) = true) ∧
        ∀ u53 : CW, u53 = qR u51 (fR u48 107 x5) x8 v52 →
        ∀ x8_56 : Int, x8_56 = w32 (x8 + 1) →
        I64 x8_56 u53) (fun x57 u58 =>
        X x57 u58)))) → I64 x8 w) → I64 x8 w
def pC_X18_byWhole_0 (p : Nat) (call : Nat → List ZA → CW → (ZRes → CW → Prop) → Prop) (Q : Nat → CW → Prop) (X : Nat → CW → Prop) (x0 : Nat) (x1 : Int) (x2 : Nat) (x3 : Nat) (x4 : Int) (w : CW) : Prop :=
  (cz w + 1 ≤ mz w ∧ cu w + 4 ≤ mu w) ∧
  ∀ u1 : CW, u1 = nO w 25 4 →
  (tg u1 x0 = 16) ∧
  call 148 [ar x0, ar x3, ai x4, ar x2] u1 (zqR (fun v4 u3 =>
    call 180 [ar (cz w + 1), ai x1, ar x2, ar v4] u3 (zqV (fun u5 =>
      (hF 91 (tg u5 x0) = true) ∧
      (hF 101 (tg u5 (fR u5 91 x0)) = true) ∧
      (hF 89 (tg u5 x2) = true) ∧
      (tg u5 (fR u5 101 (fR u5 91 x0)) = 102 ∧ 0 ≤ (fI u5 89 x2) ∧ (fI u5 89 x2) < ln u5 (fR u5 101 (fR u5 91 x0))) ∧
      ∀ x6_11 : Int, x6_11 = aN u5 (fR u5 101 (fR u5 91 x0)) (fI u5 89 x2) →
      (hF 91 (tg u5 x0) = true) ∧
      (hF 102 (tg u5 (fR u5 91 x0)) = true) ∧
      (hF 89 (tg u5 x2) = true) ∧
      (tg u5 (fR u5 102 (fR u5 91 x0)) = 102 ∧ 0 ≤ (fI u5 89 x2) ∧ (fI u5 89 x2) < ln u5 (fR u5 102 (fR u5 91 x0))) ∧
      ∀ x7_16 : Int, x7_16 = aN u5 (fR u5 102 (fR u5 91 x0)) (fI u5 89 x2) →
      (hF 112 (tg u5 (cz w + 1)) = true) ∧
      (101 ≤ tg u5 (fR u5 112 (cz w + 1)) ∧ tg u5 (fR u5 112 (cz w + 1)) ≤ 119 ∧ (tg u5 (fR u5 112 (cz w + 1)) < 107 ∨ 111 ≤ tg u5 (fR u5 112 (cz w + 1)))) ∧
      ((0 ≤ ((ln u5 (fR u5 112 (cz w + 1)) : Nat) : Int) ∧ ((ln u5 (fR u5 112 (cz w + 1)) : Nat) : Int) ≤ 1000000) ∧ cz u5 + 1 ≤ mz u5 ∧ cu u5 + Int.toNat ((ln u5 (fR u5 112 (cz w + 1)) : Nat) : Int) ≤ mu u5) ∧
      ∀ u19 : CW, u19 = nA u5 113 (Int.toNat ((ln u5 (fR u5 112 (cz w + 1)) : Nat) : Int)) →
      (hP 107 (tg u19 (cz w + 1)) = true) ∧
      ∀ u21 : CW, u21 = pR u19 107 (cz w + 1) (cz u5 + 1) →
      pC_X18_byWhole_64 p call Q X x0 x2 x3 x4 (cz w + 1) x6_11 x7_16 0 u21) zno)) zno)
/-! LetterPost$Maker.borders([LLetterPost$Row;ILLetterPost$Place;)[I -/
def pC_X18_borders_0 (p : Nat) (call : Nat → List ZA → CW → (ZRes → CW → Prop) → Prop) (Q : Nat → CW → Prop) (x0 : Nat) (x1 : Nat) (x2 : Int) (x3 : Nat) (w : CW) : Prop :=
  (tg w x0 = 16) ∧
  call 140 [ar x0, ar x1, ai x2, ar x3] w (zqI (fun v2 u1 =>
    ((0 ≤ v2 ∧ v2 ≤ 1000000) ∧ cz u1 + 1 ≤ mz u1 ∧ cu u1 + Int.toNat v2 ≤ mu u1) ∧
    ∀ u3 : CW, u3 = nA u1 102 (Int.toNat v2) →
    (hF 96 (tg u3 x0) = true) ∧
    (101 ≤ tg u3 (cz u1 + 1) ∧ tg u3 (cz u1 + 1) ≤ 119 ∧ (tg u3 (cz u1 + 1) < 107 ∨ 111 ≤ tg u3 (cz u1 + 1))) ∧
    ((0 ≤ (0 : Int) ∧ 0 ≤ (0 : Int) ∧ 0 ≤ ((ln u3 (cz u1 + 1) : Nat) : Int) ∧ (0 : Int) + ((ln u3 (cz u1 + 1) : Nat) : Int) ≤ ln u3 (fR u3 96 x0) ∧ (0 : Int) + ((ln u3 (cz u1 + 1) : Nat) : Int) ≤ ln u3 (cz u1 + 1)) ∧ cpOk u3 (fR u3 96 x0) 0 (cz u1 + 1) ((ln u3 (cz u1 + 1) : Nat) : Int)) ∧
    ∀ u7 : CW, u7 = qC u3 (fR u3 96 x0) 0 (cz u1 + 1) 0 ((ln u3 (cz u1 + 1) : Nat) : Int) →
    Q (cz u1 + 1) u7) zno)
/-! LetterPost$Known.<init>(I)V -/
def pC_X19_init_86 (p : Nat) (call : Nat → List ZA → CW → (ZRes → CW → Prop) → Prop) (Q : CW → Prop) (w : CW) : Prop :=
  Q w
def pC_X19_init_59 (p : Nat) (call : Nat → List ZA → CW → (ZRes → CW → Prop) → Prop) (Q : CW → Prop) (x0 : Nat) (x1 : Int) (x2 : Int) (w : CW) : Prop :=
  ∀ I59 : Int → CW → Prop, (∀ (x2 : Int) (w : CW), (
    (x1 ≤ x2 →
      pC_X19_init_86 p call Q w) ∧
    (¬ (x1 ≤ x2) →
      (hF 101 (tg w x0) = true) ∧
      (tg w (fR w 101 x0) = 102 ∧ 0 ≤ x2 ∧ x2 < ln w (fR w 101 x0)) ∧
      ∀ u33 : CW, u33 = qI w (fR w 101 x0) x2 (-2147483648) →
      (hF 102 (tg u33 x0) = true) ∧
      (tg u33 (fR u33 102 x0) = 102 ∧ 0 ≤ x2 ∧ x2 < ln u33 (fR u33 102 x0)) ∧
      ∀ u36 : CW, u36 = qI u33 (fR u33 102 x0) x2 2147483647 →
      ∀ x2_38 : Int, x2_38 = w32 (x2 + 1) →
      I59 x2_38 u36)) → I59 x2 w) → I59 x2 w
def pC_X19_init_0 (p : Nat) (call : Nat → List ZA → CW → (ZRes → CW → Prop) → Prop) (Q : CW → Prop) (x0 : Nat) (x1 : Int) (w : CW) : Prop :=
  (¬ x0 = 0) ∧
  ((0 ≤ (120 : Int) ∧ (120 : Int) ≤ 1000000) ∧ cz w + 1 ≤ mz w ∧ cu w + Int.toNat 120 ≤ mu w) ∧
  ∀ u3 : CW, u3 = nA w 115 (Int.toNat 120) →
  (hP 103 (tg u3 x0) = true) ∧
  ∀ u5 : CW, u5 = pR u3 103 x0 (cz w + 1) →
  ((0 ≤ (120 : Int) ∧ (120 : Int) ≤ 1000000) ∧ cz u5 + 1 ≤ mz u5 ∧ cu u5 + Int.toNat 120 ≤ mu u5) ∧
  ∀ u7 : CW, u7 = nA u5 103 (Int.toNat 120) →
  (hP 104 (tg u7 x0) = true) ∧
  ∀ u9 : CW, u9 = pR u7 104 x0 (cz u5 + 1) →
  ((0 ≤ x1 ∧ x1 ≤ 1000000) ∧ cz u9 + 1 ≤ mz u9 ∧ cu u9 + Int.toNat x1 ≤ mu u9) ∧
  ∀ u11 : CW, u11 = nA u9 102 (Int.toNat x1) →
  (hP 98 (tg u11 x0) = true) ∧
  ∀ u13 : CW, u13 = pR u11 98 x0 (cz u9 + 1) →
  ((0 ≤ x1 ∧ x1 ≤ 1000000) ∧ cz u13 + 1 ≤ mz u13 ∧ cu u13 + Int.toNat x1 ≤ mu u13) ∧
  ∀ u15 : CW, u15 = nA u13 112 (Int.toNat x1) →
  (hP 99 (tg u15 x0) = true) ∧
  ∀ u17 : CW, u17 = pR u15 99 x0 (cz u13 + 1) →
  ((0 ≤ x1 ∧ x1 ≤ 1000000) ∧ cz u17 + 1 ≤ mz u17 ∧ cu u17 + Int.toNat x1 ≤ mu u17) ∧
  ∀ u19 : CW, u19 = nA u17 103 (Int.toNat x1) →
  (hP 100 (tg u19 x0) = true) ∧
  ∀ u21 : CW, u21 = pR u19 100 x0 (cz u17 + 1) →
  ((0 ≤ x1 ∧ x1 ≤ 1000000) ∧ cz u21 + 1 ≤ mz u21 ∧ cu u21 + Int.toNat x1 ≤ mu u21) ∧
  ∀ u23 : CW, u23 = nA u21 102 (Int.toNat x1) →
  (hP 101 (tg u23 x0) = true) ∧
  ∀ u25 : CW, u25 = pR u23 101 x0 (cz u21 + 1) →
  ((0 ≤ x1 ∧ x1 ≤ 1000000) ∧ cz u25 + 1 ≤ mz u25 ∧ cu u25 + Int.toNat x1 ≤ mu u25) ∧
  ∀ u27 : CW, u27 = nA u25 102 (Int.toNat x1) →
  (hP 102 (tg u27 x0) = true) ∧
  ∀ u29 : CW, u29 = pR u27 102 x0 (cz u25 + 1) →
  pC_X19_init_59 p call Q x0 x1 0 u29
/-! LetterPost$Known.isOut(LLetterPost$Place;J)Z -/
def pC_X19_isOut_54 (p : Nat) (call : Nat → List ZA → CW → (ZRes → CW → Prop) → Prop) (Q : Int → CW → Prop) (x4 : Int) (w : CW) : Prop :=
  (x4 = 0 ∨ x4 = 1) ∧
  Q x4 w
def pC_X19_isOut_6 (p : Nat) (call : Nat → List ZA → CW → (ZRes → CW → Prop) → Prop) (Q : Int → CW → Prop) (x0 : Nat) (x1 : Nat) (x2 : Int) (x4 : Int) (x5 : Int) (w : CW) : Prop :=
  ∀ I6 : Int → Int → CW → Prop, (∀ (x4 : Int) (x5 : Int) (w : CW), (
    (hF 105 (tg w x0) = true) ∧
    ((fI w 105 x0) ≤ x5 →
      pC_X19_isOut_54 p call Q x4 w) ∧
    (¬ ((fI w 105 x0) ≤ x5) →
      (hF 103 (tg w x0) = true) ∧
      ((111 ≤ tg w (fR w 103 x0) ∧ tg w (fR w 103 x0) ≤ 119) ∧ 0 ≤ x5 ∧ x5 < ln w (fR w 103 x0)) ∧
      (((aR w (fR w 103 x0) x5) = x1 → (hF 104 (tg w x0) = true) ∧ (tg w (fR w 104 x0) = 103 ∧ 0 ≤ x5 ∧ x5 < ln w (fR w 104 x0)))) ∧
      ∀ v5 : Int, v5 = (if ((aR w (fR w 103 x0) x5) = x1) ∧ ((aW w (fR w 104 x0) x5) = x2) then 1 else 0) →
      ∀ x4_7 : Int, x4_7 = i_or x4 v5 →
      ∀ x5_8 : Int, x5_8 = w32 (x5 + 1) →
      I6 x4_7 x5_8 w)) → I6 x4 x5 w) → I6 x4 x5 w
def pC_X19_isOut_0 (p : Nat) (call : Nat → List ZA → CW → (ZRes → CW → Prop) → Prop) (Q : Int → CW → Prop) (x0 : Nat) (x1 : Nat) (x2 : Int) (w : CW) : Prop :=
  pC_X19_isOut_6 p call Q x0 x1 x2 0 0 w
/-! LetterPost$TooMany.<init>()V -/
def pC_X20_init_0 (p : Nat) (call : Nat → List ZA → CW → (ZRes → CW → Prop) → Prop) (Q : CW → Prop) (x0 : Nat) (w : CW) : Prop :=
  (¬ x0 = 0) ∧
  call 205 [ar x0, ar 0, ar 0, ai 0, ai 0] w (zqV (fun u1 =>
    Q u1) zno)
/-! LetterPost$Node.<init>(I)V -/
def pC_X21_init_0 (p : Nat) (call : Nat → List ZA → CW → (ZRes → CW → Prop) → Prop) (Q : CW → Prop) (x0 : Nat) (x1 : Int) (w : CW) : Prop :=
  (¬ x0 = 0) ∧
  ((0 ≤ (0 : Int) ∧ (0 : Int) ≤ 1000000) ∧ cz w + 1 ≤ mz w ∧ cu w + Int.toNat 0 ≤ mu w) ∧
  ∀ u3 : CW, u3 = nA w 113 (Int.toNat 0) →
  (hP 107 (tg u3 x0) = true) ∧
  ∀ u5 : CW, u5 = pR u3 107 x0 (cz w + 1) →
  (hP 106 (tg u5 x0) = true) ∧
  ∀ u7 : CW, u7 = pI u5 106 x0 x1 →
  Q u7
/-! LetterPost$Node.many()I -/
def pC_X21_many_39 (p : Nat) (call : Nat → List ZA → CW → (ZRes → CW → Prop) → Prop) (Q : Int → CW → Prop) (x1 : Int) (w : CW) : Prop :=
  Q x1 w
def pC_X21_many_13 (p : Nat) (call : Nat → List ZA → CW → (ZRes → CW → Prop) → Prop) (Q : Int → CW → Prop) (x1 : Int) (x2 : Nat) (x3 : Int) (x4 : Int) (w : CW) : Prop :=
  ∀ I13 : Int → Int → CW → Prop, (∀ (x1 : Int) (x4 : Int) (w : CW), (
    (x3 ≤ x4 →
      pC_X21_many_39 p call Q x1 w) ∧
    (¬ (x3 ≤ x4) →
      ((111 ≤ tg w x2 ∧ tg w x2 ≤ 119) ∧ 0 ≤ x4 ∧ x4 < ln w x2) ∧
      ∀ x5_7 : Nat, x5_7 = aR w x2 x4 →
      (tg w x5_7 = 19 ∨ tg w x5_7 = 20 ∨ tg w x5_7 = 21 ∨ tg w x5_7 = 22 ∨ tg w x5_7 = 23 ∨ tg w x5_7 = 24 ∨ tg w x5_7 = 25) ∧
      call 153 [ar x5_7] w (zqI (fun v9 u8 =>
        ∀ x1_10 : Int, x1_10 = w32 (x1 + v9) →
        ∀ x4_11 : Int, x4_11 = w32 (x4 + 1) →
        I13 x1_10 x4_11 u8) zno))) → I13 x1 x4 w) → I13 x1 x4 w
def pC_X21_many_0 (p : Nat) (call : Nat → List ZA → CW → (ZRes → CW → Prop) → Prop) (Q : Int → CW → Prop) (x0 : Nat) (w : CW) : Prop :=
  (hF 107 (tg w x0) = true) ∧
  ∀ x2_2 : Nat, x2_2 = fR w 107 x0 →
  (101 ≤ tg w x2_2 ∧ tg w x2_2 ≤ 119 ∧ (tg w x2_2 < 107 ∨ 111 ≤ tg w x2_2)) ∧
  ∀ x3_4 : Int, x3_4 = ((ln w x2_2 : Nat) : Int) →
  pC_X21_many_13 p call Q 1 x2_2 x3_4 0 w
/-! LetterPost$Node.depth()I -/
def pC_X21_depth_41 (p : Nat) (call : Nat → List ZA → CW → (ZRes → CW → Prop) → Prop) (Q : Int → CW → Prop) (x1 : Int) (w : CW) : Prop :=
  Q (w32 (x1 + 1)) w
def pC_X21_depth_13 (p : Nat) (call : Nat → List ZA → CW → (ZRes → CW → Prop) → Prop) (Q : Int → CW → Prop) (x1 : Int) (x2 : Nat) (x3 : Int) (x4 : Int) (w : CW) : Prop :=
  ∀ I13 : Int → Int → CW → Prop, (∀ (x1 : Int) (x4 : Int) (w : CW), (
    (x3 ≤ x4 →
      pC_X21_depth_41 p call Q x1 w) ∧
    (¬ (x3 ≤ x4) →
      ((111 ≤ tg w x2 ∧ tg w x2 ≤ 119) ∧ 0 ≤ x4 ∧ x4 < ln w x2) ∧
      ∀ x5_7 : Nat, x5_7 = aR w x2 x4 →
      (tg w x5_7 = 19 ∨ tg w x5_7 = 20 ∨ tg w x5_7 = 21 ∨ tg w x5_7 = 22 ∨ tg w x5_7 = 23 ∨ tg w x5_7 = 24 ∨ tg w x5_7 = 25) ∧
      call 154 [ar x5_7] w (zqI (fun v9 u8 =>
        ∀ x1_10 : Int, x1_10 = (if x1 < v9 then v9 else x1) →
        ∀ x4_11 : Int, x4_11 = w32 (x4 + 1) →
        I13 x1_10 x4_11 u8) zno))) → I13 x1 x4 w) → I13 x1 x4 w
def pC_X21_depth_0 (p : Nat) (call : Nat → List ZA → CW → (ZRes → CW → Prop) → Prop) (Q : Int → CW → Prop) (x0 : Nat) (w : CW) : Prop :=
  (hF 107 (tg w x0) = true) ∧
  ∀ x2_2 : Nat, x2_2 = fR w 107 x0 →
  (101 ≤ tg w x2_2 ∧ tg w x2_2 ≤ 119 ∧ (tg w x2_2 < 107 ∨ 111 ≤ tg w x2_2)) ∧
  ∀ x3_4 : Int, x3_4 = ((ln w x2_2 : Nat) : Int) →
  pC_X21_depth_13 p call Q 0 x2_2 x3_4 0 w
/-! LetterPost$Node.find(I)LLetterPost$Node; -/
def pC_X21_find_54 (p : Nat) (call : Nat → List ZA → CW → (ZRes → CW → Prop) → Prop) (Q : Nat → CW → Prop) (x2 : Nat) (w : CW) : Prop :=
  Q x2 w
def pC_X21_find_44 (p : Nat) (call : Nat → List ZA → CW → (ZRes → CW → Prop) → Prop) (Q : Nat → CW → Prop) (I2 : Nat → CW → Prop) (x1 : Int) (x2 : Nat) (x3 : Int) (w : CW) : Prop :=
  (hF 107 (tg w x2) = true) ∧
  ((111 ≤ tg w (fR w 107 x2) ∧ tg w (fR w 107 x2) ≤ 119) ∧ 0 ≤ x3 ∧ x3 < ln w (fR w 107 x2)) ∧
  ∀ x2_9 : Nat, x2_9 = aR w (fR w 107 x2) x3 →
  I2 x2_9 w
def pC_X21_find_12 (p : Nat) (call : Nat → List ZA → CW → (ZRes → CW → Prop) → Prop) (Q : Nat → CW → Prop) (I2 : Nat → CW → Prop) (x1 : Int) (x2 : Nat) (x3 : Int) (w : CW) : Prop :=
  ∀ I12 : Int → CW → Prop, (∀ (x3 : Int) (w : CW), (
    (hF 107 (tg w x2) = true) ∧
    (101 ≤ tg w (fR w 107 x2) ∧ tg w (fR w 107 x2) ≤ 119 ∧ (tg w (fR w 107 x2) < 107 ∨ 111 ≤ tg w (fR w 107 x2))) ∧
    ((¬ (((ln w (fR w 107 x2) : Nat) : Int) ≤ (w32 (x3 + 1))) → (hF 107 (tg w x2) = true) ∧ ((111 ≤ tg w (fR w 107 x2) ∧ tg w (fR w 107 x2) ≤ 119) ∧ 0 ≤ (w32 (x3 + 1)) ∧ (w32 (x3 + 1)) < ln w (fR w 107 x2)) ∧ (hF 106 (tg w (aR w (fR w 107 x2) (w32 (x3 + 1)))) = true))) ∧
    (¬ (((ln w (fR w 107 x2) : Nat) : Int) ≤ (w32 (x3 + 1))) ∧ (¬ (x1 < (fI w 106 (aR w (fR w 107 x2) (w32 (x3 + 1)))))) →
      ∀ x3_6 : Int, x3_6 = w32 (x3 + 1) →
      I12 x3_6 w) ∧
    (¬ (¬ (((ln w (fR w 107 x2) : Nat) : Int) ≤ (w32 (x3 + 1))) ∧ (¬ (x1 < (fI w 106 (aR w (fR w 107 x2) (w32 (x3 + 1))))))) →
      pC_X21_find_44 p call Q I2 x1 x2 x3 w)) → I12 x3 w) → I12 x3 w
def pC_X21_find_2 (p : Nat) (call : Nat → List ZA → CW → (ZRes → CW → Prop) → Prop) (Q : Nat → CW → Prop) (x1 : Int) (x2 : Nat) (w : CW) : Prop :=
  ∀ I2 : Nat → CW → Prop, (∀ (x2 : Nat) (w : CW), (
    (hF 106 (tg w x2) = true) ∧
    ((fI w 106 x2) = x1 →
      pC_X21_find_54 p call Q x2 w) ∧
    (¬ ((fI w 106 x2) = x1) →
      pC_X21_find_12 p call Q I2 x1 x2 0 w)) → I2 x2 w) → I2 x2 w
def pC_X21_find_0 (p : Nat) (call : Nat → List ZA → CW → (ZRes → CW → Prop) → Prop) (Q : Nat → CW → Prop) (x0 : Nat) (x1 : Int) (w : CW) : Prop :=
  pC_X21_find_2 p call Q x1 x0 w
/-! LetterPost$Node.what()I -/
def pC_X21_what_0 (p : Nat) (call : Nat → List ZA → CW → (ZRes → CW → Prop) → Prop) (Q : Int → CW → Prop) (w : CW) : Prop :=
  Q 0 w
/-! LetterPost$Node.rule()LLetterPost$Rule; -/
def pC_X21_rule_0 (p : Nat) (call : Nat → List ZA → CW → (ZRes → CW → Prop) → Prop) (Q : Nat → CW → Prop) (w : CW) : Prop :=
  Q 0 w
/-! LetterPost$Node.place()LLetterPost$Place; -/
def pC_X21_place_0 (p : Nat) (call : Nat → List ZA → CW → (ZRes → CW → Prop) → Prop) (Q : Nat → CW → Prop) (w : CW) : Prop :=
  Q 0 w
/-! LetterPost$Node.has(LLetterPost$Rule;)Z -/
def pC_X21_has_66 (p : Nat) (call : Nat → List ZA → CW → (ZRes → CW → Prop) → Prop) (Q : Int → CW → Prop) (x2 : Int) (w : CW) : Prop :=
  (x2 = 0 ∨ x2 = 1) ∧
  Q x2 w
def pC_X21_has_36 (p : Nat) (call : Nat → List ZA → CW → (ZRes → CW → Prop) → Prop) (Q : Int → CW → Prop) (x0 : Nat) (x1 : Nat) (x2 : Int) (x3 : Int) (w : CW) : Prop :=
  ∀ I36 : Int → Int → CW → Prop, (∀ (x2 : Int) (x3 : Int) (w : CW), (
    (hF 107 (tg w x0) = true) ∧
    (101 ≤ tg w (fR w 107 x0) ∧ tg w (fR w 107 x0) ≤ 119 ∧ (tg w (fR w 107 x0) < 107 ∨ 111 ≤ tg w (fR w 107 x0))) ∧
    (¬ (((ln w (fR w 107 x0) : Nat) : Int) ≤ x3) ∧ (x2 = 0) →
      (hF 107 (tg w x0) = true) ∧
      ((111 ≤ tg w (fR w 107 x0) ∧ tg w (fR w 107 x0) ≤ 119) ∧ 0 ≤ x3 ∧ x3 < ln w (fR w 107 x0)) ∧
      (tg w (aR w (fR w 107 x0) x3) = 19 ∨ tg w (aR w (fR w 107 x0) x3) = 20 ∨ tg w (aR w (fR w 107 x0) x3) = 21 ∨ tg w (aR w (fR w 107 x0) x3) = 22 ∨ tg w (aR w (fR w 107 x0) x3) = 23 ∨ tg w (aR w (fR w 107 x0) x3) = 24 ∨ tg w (aR w (fR w 107 x0) x3) = 25) ∧
      call 159 [ar (aR w (fR w 107 x0) x3), ar x1] w (zqI (fun v10 u9 =>
        ∀ x3_11 : Int, x3_11 = w32 (x3 + 1) →
        I36 v10 x3_11 u9) zno)) ∧
    (¬ (¬ (((ln w (fR w 107 x0) : Nat) : Int) ≤ x3) ∧ (x2 = 0)) →
      pC_X21_has_66 p call Q x2 w)) → I36 x2 x3 w) → I36 x2 x3 w
def pC_X21_has_33 (p : Nat) (call : Nat → List ZA → CW → (ZRes → CW → Prop) → Prop) (Q : Int → CW → Prop) (x0 : Nat) (x1 : Nat) (s0 : Int) (w : CW) : Prop :=
  pC_X21_has_36 p call Q x0 x1 s0 0 w
def pC_X21_has_32 (p : Nat) (call : Nat → List ZA → CW → (ZRes → CW → Prop) → Prop) (Q : Int → CW → Prop) (x0 : Nat) (x1 : Nat) (w : CW) : Prop :=
  pC_X21_has_33 p call Q x0 x1 0 w
def pC_X21_has_28 (p : Nat) (call : Nat → List ZA → CW → (ZRes → CW → Prop) → Prop) (Q : Int → CW → Prop) (x0 : Nat) (x1 : Nat) (w : CW) : Prop :=
  pC_X21_has_33 p call Q x0 x1 1 w
def pC_X21_has_16 (p : Nat) (call : Nat → List ZA → CW → (ZRes → CW → Prop) → Prop) (Q : Int → CW → Prop) (x0 : Nat) (x1 : Nat) (w : CW) : Prop :=
  (x1 = 0 →
    pC_X21_has_32 p call Q x0 x1 w) ∧
  (¬ (x1 = 0) →
    call (vm3 (tg w x0)) [ar x0] w (zqR (fun v20 u19 =>
      (v20 = x1 →
        pC_X21_has_28 p call Q x0 x1 u19) ∧
      (¬ (v20 = x1) →
        pC_X21_has_32 p call Q x0 x1 u19)) zno))
def pC_X21_has_0 (p : Nat) (call : Nat → List ZA → CW → (ZRes → CW → Prop) → Prop) (Q : Int → CW → Prop) (x0 : Nat) (x1 : Nat) (w : CW) : Prop :=
  call (vm3 (tg w x0)) [ar x0] w (zqR (fun v2 u1 =>
    ((v2 = x1 → (hF 107 (tg u1 x0) = true) ∧ (101 ≤ tg u1 (fR u1 107 x0) ∧ tg u1 (fR u1 107 x0) ≤ 119 ∧ (tg u1 (fR u1 107 x0) < 107 ∨ 111 ≤ tg u1 (fR u1 107 x0))))) ∧
    (¬ (v2 = x1) ∨ (¬ (((ln u1 (fR u1 107 x0) : Nat) : Int) = 0)) →
      pC_X21_has_16 p call Q x0 x1 u1) ∧
    (¬ (¬ (v2 = x1) ∨ (¬ (((ln u1 (fR u1 107 x0) : Nat) : Int) = 0))) →
      pC_X21_has_28 p call Q x0 x1 u1)) zno)
/-! LetterPost$Node.go([LLetterPost$Value;)LLetterPost$Node; -/
def pC_X21_go_0 (p : Nat) (call : Nat → List ZA → CW → (ZRes → CW → Prop) → Prop) (Q : Nat → CW → Prop) (w : CW) : Prop :=
  Q 0 w
/-! LetterPost$Unfitted.<init>(I)V -/
def pC_X22_init_0 (p : Nat) (call : Nat → List ZA → CW → (ZRes → CW → Prop) → Prop) (Q : CW → Prop) (x0 : Nat) (x1 : Int) (w : CW) : Prop :=
  (¬ x0 = 0) ∧
  call 152 [ar x0, ai x1] w (zqV (fun u1 =>
    Q u1) zno)
/-! LetterPost$Answering.<init>(ILLetterPost$Row;)V -/
def pC_X23_init_0 (p : Nat) (call : Nat → List ZA → CW → (ZRes → CW → Prop) → Prop) (Q : CW → Prop) (x0 : Nat) (x1 : Int) (x2 : Nat) (w : CW) : Prop :=
  (¬ x0 = 0) ∧
  call 152 [ar x0, ai x1] w (zqV (fun u1 =>
    (hP 108 (tg u1 x0) = true) ∧
    ∀ u3 : CW, u3 = pR u1 108 x0 x2 →
    Q u3) zno)
/-! LetterPost$Answering.what()I -/
def pC_X23_what_0 (p : Nat) (call : Nat → List ZA → CW → (ZRes → CW → Prop) → Prop) (Q : Int → CW → Prop) (w : CW) : Prop :=
  Q 1 w
/-! LetterPost$Answering.rule()LLetterPost$Rule; -/
def pC_X23_rule_0 (p : Nat) (call : Nat → List ZA → CW → (ZRes → CW → Prop) → Prop) (Q : Nat → CW → Prop) (x0 : Nat) (w : CW) : Prop :=
  (hF 108 (tg w x0) = true) ∧
  (hF 80 (tg w (fR w 108 x0)) = true) ∧
  Q (fR w 80 (fR w 108 x0)) w
/-! LetterPost$Answering.binds([LLetterPost$Value;[LLetterPost$Value;)V -/
def pC_X23_binds_46 (p : Nat) (call : Nat → List ZA → CW → (ZRes → CW → Prop) → Prop) (Q : CW → Prop) (w : CW) : Prop :=
  Q w
def pC_X23_binds_39 (p : Nat) (call : Nat → List ZA → CW → (ZRes → CW → Prop) → Prop) (Q : CW → Prop) (I2 : Int → CW → Prop) (x0 : Nat) (x1 : Nat) (x2 : Nat) (x3 : Int) (s0 : Nat) (s1 : Int) (s2 : Nat) (w : CW) : Prop :=
  ((111 ≤ tg w s2 ∧ tg w s2 ≤ 119) ∧ 0 ≤ s1 ∧ s1 < ln w s2) ∧
  (s0 = 0 ∨ zst (tg w s2) (tg w s0) = true) ∧
  ∀ u11 : CW, u11 = qR w s2 s1 s0 →
  ∀ x3_14 : Int, x3_14 = w32 (x3 + 1) →
  I2 x3_14 u11
def pC_X23_binds_2 (p : Nat) (call : Nat → List ZA → CW → (ZRes → CW → Prop) → Prop) (Q : CW → Prop) (x0 : Nat) (x1 : Nat) (x2 : Nat) (x3 : Int) (w : CW) : Prop :=
  ∀ I2 : Int → CW → Prop, (∀ (x3 : Int) (w : CW), (
    (8 ≤ x3 →
      pC_X23_binds_46 p call Q w) ∧
    (¬ (8 ≤ x3) →
      (hF 108 (tg w x0) = true) ∧
      (hF 84 (tg w (fR w 108 x0)) = true) ∧
      ((111 ≤ tg w (fR w 84 (fR w 108 x0)) ∧ tg w (fR w 84 (fR w 108 x0)) ≤ 119) ∧ 0 ≤ x3 ∧ x3 < ln w (fR w 84 (fR w 108 x0))) ∧
      ((aR w (fR w 84 (fR w 108 x0)) x3) = 0 →
        pC_X23_binds_39 p call Q I2 x0 x1 x2 x3 0 x3 x2 w) ∧
      (¬ ((aR w (fR w 84 (fR w 108 x0)) x3) = 0) →
        (hF 108 (tg w x0) = true) ∧
        (hF 84 (tg w (fR w 108 x0)) = true) ∧
        ((111 ≤ tg w (fR w 84 (fR w 108 x0)) ∧ tg w (fR w 84 (fR w 108 x0)) ≤ 119) ∧ 0 ≤ x3 ∧ x3 < ln w (fR w 84 (fR w 108 x0))) ∧
        (tg w (aR w (fR w 84 (fR w 108 x0)) x3) = 15) ∧
        call 131 [ar (aR w (fR w 84 (fR w 108 x0)) x3), ar x1] w (zqR (fun v10 u9 =>
          pC_X23_binds_39 p call Q I2 x0 x1 x2 x3 v10 x3 x2 u9) zno)))) → I2 x3 w) → I2 x3 w
def pC_X23_binds_0 (p : Nat) (call : Nat → List ZA → CW → (ZRes → CW → Prop) → Prop) (Q : CW → Prop) (x0 : Nat) (x1 : Nat) (x2 : Nat) (w : CW) : Prop :=
  pC_X23_binds_2 p call Q x0 x1 x2 0 w
/-! LetterPost$Guarded.<init>(ILLetterPost$Row;)V -/
def pC_X24_init_0 (p : Nat) (call : Nat → List ZA → CW → (ZRes → CW → Prop) → Prop) (Q : CW → Prop) (x0 : Nat) (x1 : Int) (x2 : Nat) (w : CW) : Prop :=
  (¬ x0 = 0) ∧
  call 162 [ar x0, ai x1, ar x2] w (zqV (fun u1 =>
    Q u1) zno)
/-! LetterPost$Guarded.what()I -/
def pC_X24_what_0 (p : Nat) (call : Nat → List ZA → CW → (ZRes → CW → Prop) → Prop) (Q : Int → CW → Prop) (w : CW) : Prop :=
  Q 2 w
/-! LetterPost$Guarded.go([LLetterPost$Value;)LLetterPost$Node; -/
def pC_X24_go_0 (p : Nat) (call : Nat → List ZA → CW → (ZRes → CW → Prop) → Prop) (Q : Nat → CW → Prop) (x0 : Nat) (w : CW) : Prop :=
  (hF 107 (tg w x0) = true) ∧
  ((111 ≤ tg w (fR w 107 x0) ∧ tg w (fR w 107 x0) ≤ 119) ∧ 0 ≤ (0 : Int) ∧ (0 : Int) < ln w (fR w 107 x0)) ∧
  Q (aR w (fR w 107 x0) 0) w
/-! LetterPost$Testing.<init>(ILLetterPost$Place;)V -/
def pC_X25_init_0 (p : Nat) (call : Nat → List ZA → CW → (ZRes → CW → Prop) → Prop) (Q : CW → Prop) (x0 : Nat) (x1 : Int) (x2 : Nat) (w : CW) : Prop :=
  (¬ x0 = 0) ∧
  call 152 [ar x0, ai x1] w (zqV (fun u1 =>
    (hP 109 (tg u1 x0) = true) ∧
    ∀ u3 : CW, u3 = pR u1 109 x0 x2 →
    Q u3) zno)
/-! LetterPost$Testing.place()LLetterPost$Place; -/
def pC_X25_place_0 (p : Nat) (call : Nat → List ZA → CW → (ZRes → CW → Prop) → Prop) (Q : Nat → CW → Prop) (x0 : Nat) (w : CW) : Prop :=
  (hF 109 (tg w x0) = true) ∧
  Q (fR w 109 x0) w
/-! LetterPost$KindTest.<init>(ILLetterPost$Place;[LLetterPost$Kind;)V -/
def pC_X26_init_0 (p : Nat) (call : Nat → List ZA → CW → (ZRes → CW → Prop) → Prop) (Q : CW → Prop) (x0 : Nat) (x1 : Int) (x2 : Nat) (x3 : Nat) (w : CW) : Prop :=
  (¬ x0 = 0) ∧
  call 169 [ar x0, ai x1, ar x2] w (zqV (fun u1 =>
    (hP 110 (tg u1 x0) = true) ∧
    ∀ u3 : CW, u3 = pR u1 110 x0 x3 →
    Q u3) zno)
/-! LetterPost$KindTest.what()I -/
def pC_X26_what_0 (p : Nat) (call : Nat → List ZA → CW → (ZRes → CW → Prop) → Prop) (Q : Int → CW → Prop) (w : CW) : Prop :=
  Q 3 w
/-! LetterPost$KindTest.go([LLetterPost$Value;)LLetterPost$Node; -/
def pC_X26_go_59 (p : Nat) (call : Nat → List ZA → CW → (ZRes → CW → Prop) → Prop) (Q : Nat → CW → Prop) (w : CW) : Prop :=
  Q 0 w
def pC_X26_go_44 (p : Nat) (call : Nat → List ZA → CW → (ZRes → CW → Prop) → Prop) (Q : Nat → CW → Prop) (x0 : Nat) (x3 : Int) (w : CW) : Prop :=
  (hF 107 (tg w x0) = true) ∧
  ((111 ≤ tg w (fR w 107 x0) ∧ tg w (fR w 107 x0) ≤ 119) ∧ 0 ≤ (w32 (x3 + 1)) ∧ (w32 (x3 + 1)) < ln w (fR w 107 x0)) ∧
  Q (aR w (fR w 107 x0) (w32 (x3 + 1))) w
def pC_X26_go_25 (p : Nat) (call : Nat → List ZA → CW → (ZRes → CW → Prop) → Prop) (Q : Nat → CW → Prop) (x0 : Nat) (x2 : Nat) (x3 : Int) (w : CW) : Prop :=
  ∀ I25 : Int → CW → Prop, (∀ (x3 : Int) (w : CW), (
    (hF 110 (tg w x0) = true) ∧
    (101 ≤ tg w (fR w 110 x0) ∧ tg w (fR w 110 x0) ≤ 119 ∧ (tg w (fR w 110 x0) < 107 ∨ 111 ≤ tg w (fR w 110 x0))) ∧
    (((ln w (fR w 110 x0) : Nat) : Int) ≤ x3 →
      pC_X26_go_59 p call Q w) ∧
    (¬ (((ln w (fR w 110 x0) : Nat) : Int) ≤ x3) →
      (hF 110 (tg w x0) = true) ∧
      ((111 ≤ tg w (fR w 110 x0) ∧ tg w (fR w 110 x0) ≤ 119) ∧ 0 ≤ x3 ∧ x3 < ln w (fR w 110 x0)) ∧
      ((aR w (fR w 110 x0) x3) = x2 →
        pC_X26_go_44 p call Q x0 x3 w) ∧
      (¬ ((aR w (fR w 110 x0) x3) = x2) →
        ∀ x3_13 : Int, x3_13 = w32 (x3 + 1) →
        I25 x3_13 w))) → I25 x3 w) → I25 x3 w
def pC_X26_go_0 (p : Nat) (call : Nat → List ZA → CW → (ZRes → CW → Prop) → Prop) (Q : Nat → CW → Prop) (x0 : Nat) (x1 : Nat) (w : CW) : Prop :=
  (hF 109 (tg w x0) = true) ∧
  (tg w (fR w 109 x0) = 15) ∧
  call 131 [ar (fR w 109 x0), ar x1] w (zqR (fun v3 u2 =>
    call (vm4 (tg u2 v3)) [ar v3] u2 (zqR (fun v5 u4 =>
      (v5 = 0 →
        (hF 107 (tg u4 x0) = true) ∧
        ((111 ≤ tg u4 (fR u4 107 x0) ∧ tg u4 (fR u4 107 x0) ≤ 119) ∧ 0 ≤ (0 : Int) ∧ (0 : Int) < ln u4 (fR u4 107 x0)) ∧
        Q (aR u4 (fR u4 107 x0) 0) u4) ∧
      (¬ (v5 = 0) →
        pC_X26_go_25 p call Q x0 v5 0 u4)) zno)) zno)
/-! LetterPost$TruthTest.<init>(ILLetterPost$Place;)V -/
def pC_X27_init_0 (p : Nat) (call : Nat → List ZA → CW → (ZRes → CW → Prop) → Prop) (Q : CW → Prop) (x0 : Nat) (x1 : Int) (x2 : Nat) (w : CW) : Prop :=
  (¬ x0 = 0) ∧
  call 169 [ar x0, ai x1, ar x2] w (zqV (fun u1 =>
    Q u1) zno)
/-! LetterPost$TruthTest.what()I -/
def pC_X27_what_0 (p : Nat) (call : Nat → List ZA → CW → (ZRes → CW → Prop) → Prop) (Q : Int → CW → Prop) (w : CW) : Prop :=
  Q 4 w
/-! LetterPost$TruthTest.go([LLetterPost$Value;)LLetterPost$Node; -/
def pC_X27_go_0 (p : Nat) (call : Nat → List ZA → CW → (ZRes → CW → Prop) → Prop) (Q : Nat → CW → Prop) (x0 : Nat) (x1 : Nat) (w : CW) : Prop :=
  (hF 107 (tg w x0) = true) ∧
  (hF 109 (tg w x0) = true) ∧
  (tg w (fR w 109 x0) = 15) ∧
  call 131 [ar (fR w 109 x0), ar x1] w (zqR (fun v4 u3 =>
    call (vm6 (tg u3 v4)) [ar v4] u3 (zqI (fun v6 u5 =>
      ((111 ≤ tg u5 (fR w 107 x0) ∧ tg u5 (fR w 107 x0) ≤ 119) ∧ 0 ≤ v6 ∧ v6 < ln u5 (fR w 107 x0)) ∧
      Q (aR u5 (fR w 107 x0) v6) u5) zno)) zno)
/-! LetterPost$TextTest.<init>(ILLetterPost$Place;[J)V -/
def pC_X28_init_0 (p : Nat) (call : Nat → List ZA → CW → (ZRes → CW → Prop) → Prop) (Q : CW → Prop) (x0 : Nat) (x1 : Int) (x2 : Nat) (x3 : Nat) (w : CW) : Prop :=
  (¬ x0 = 0) ∧
  call 169 [ar x0, ai x1, ar x2] w (zqV (fun u1 =>
    (hP 111 (tg u1 x0) = true) ∧
    ∀ u3 : CW, u3 = pR u1 111 x0 x3 →
    Q u3) zno)
/-! LetterPost$TextTest.what()I -/
def pC_X28_what_0 (p : Nat) (call : Nat → List ZA → CW → (ZRes → CW → Prop) → Prop) (Q : Int → CW → Prop) (w : CW) : Prop :=
  Q 5 w
/-! LetterPost$TextTest.go([LLetterPost$Value;)LLetterPost$Node; -/
def pC_X28_go_46 (p : Nat) (call : Nat → List ZA → CW → (ZRes → CW → Prop) → Prop) (Q : Nat → CW → Prop) (x0 : Nat) (x4 : Int) (w : CW) : Prop :=
  (hF 107 (tg w x0) = true) ∧
  ((111 ≤ tg w (fR w 107 x0) ∧ tg w (fR w 107 x0) ≤ 119) ∧ 0 ≤ x4 ∧ x4 < ln w (fR w 107 x0)) ∧
  Q (aR w (fR w 107 x0) x4) w
def pC_X28_go_18 (p : Nat) (call : Nat → List ZA → CW → (ZRes → CW → Prop) → Prop) (Q : Nat → CW → Prop) (x0 : Nat) (x2 : Int) (x4 : Int) (w : CW) : Prop :=
  ∀ I18 : Int → CW → Prop, (∀ (x4 : Int) (w : CW), (
    (hF 111 (tg w x0) = true) ∧
    (101 ≤ tg w (fR w 111 x0) ∧ tg w (fR w 111 x0) ≤ 119 ∧ (tg w (fR w 111 x0) < 107 ∨ 111 ≤ tg w (fR w 111 x0))) ∧
    ((¬ (((ln w (fR w 111 x0) : Nat) : Int) ≤ x4) → (hF 111 (tg w x0) = true) ∧ (tg w (fR w 111 x0) = 103 ∧ 0 ≤ x4 ∧ x4 < ln w (fR w 111 x0)))) ∧
    (¬ (((ln w (fR w 111 x0) : Nat) : Int) ≤ x4) ∧ (¬ ((aW w (fR w 111 x0) x4) = x2)) →
      ∀ x4_10 : Int, x4_10 = w32 (x4 + 1) →
      I18 x4_10 w) ∧
    (¬ (¬ (((ln w (fR w 111 x0) : Nat) : Int) ≤ x4) ∧ (¬ ((aW w (fR w 111 x0) x4) = x2))) →
      pC_X28_go_46 p call Q x0 x4 w)) → I18 x4 w) → I18 x4 w
def pC_X28_go_0 (p : Nat) (call : Nat → List ZA → CW → (ZRes → CW → Prop) → Prop) (Q : Nat → CW → Prop) (x0 : Nat) (x1 : Nat) (w : CW) : Prop :=
  (hF 109 (tg w x0) = true) ∧
  (tg w (fR w 109 x0) = 15) ∧
  call 131 [ar (fR w 109 x0), ar x1] w (zqR (fun v3 u2 =>
    (v3 = 0 ∨ zca (tg u2 v3) "LetterPost$Text" = true) ∧
    (hF 116 (tg u2 v3) = true) ∧
    ∀ x2_6 : Int, x2_6 = fI u2 116 v3 →
    pC_X28_go_18 p call Q x0 x2_6 0 u2) zno)
/-! LetterPost$WholeTest.<init>(ILLetterPost$Place;[I)V -/
def pC_X29_init_0 (p : Nat) (call : Nat → List ZA → CW → (ZRes → CW → Prop) → Prop) (Q : CW → Prop) (x0 : Nat) (x1 : Int) (x2 : Nat) (x3 : Nat) (w : CW) : Prop :=
  (¬ x0 = 0) ∧
  call 169 [ar x0, ai x1, ar x2] w (zqV (fun u1 =>
    (hP 112 (tg u1 x0) = true) ∧
    ∀ u3 : CW, u3 = pR u1 112 x0 x3 →
    Q u3) zno)
/-! LetterPost$WholeTest.what()I -/
def pC_X29_what_0 (p : Nat) (call : Nat → List ZA → CW → (ZRes → CW → Prop) → Prop) (Q : Int → CW → Prop) (w : CW) : Prop :=
  Q 6 w
/-! LetterPost$WholeTest.go([LLetterPost$Value;)LLetterPost$Node; -/
def pC_X29_go_33 (p : Nat) (call : Nat → List ZA → CW → (ZRes → CW → Prop) → Prop) (Q : Nat → CW → Prop) (x0 : Nat) (x3 : Int) (w : CW) : Prop :=
  (hF 107 (tg w x0) = true) ∧
  ((111 ≤ tg w (fR w 107 x0) ∧ tg w (fR w 107 x0) ≤ 119) ∧ 0 ≤ x3 ∧ x3 < ln w (fR w 107 x0)) ∧
  Q (aR w (fR w 107 x0) x3) w
def pC_X29_go_17 (p : Nat) (call : Nat → List ZA → CW → (ZRes → CW → Prop) → Prop) (Q : Nat → CW → Prop) (x0 : Nat) (x2 : Int) (x3 : Int) (w : CW) : Prop :=
  ∀ I17 : Int → CW → Prop, (∀ (x3 : Int) (w : CW), (
    (hF 112 (tg w x0) = true) ∧
    (tg w (fR w 112 x0) = 102 ∧ 0 ≤ x3 ∧ x3 < ln w (fR w 112 x0)) ∧
    (x2 ≤ (aN w (fR w 112 x0) x3) →
      pC_X29_go_33 p call Q x0 x3 w) ∧
    (¬ (x2 ≤ (aN w (fR w 112 x0) x3)) →
      ∀ x3_12 : Int, x3_12 = w32 (x3 + 1) →
      I17 x3_12 w)) → I17 x3 w) → I17 x3 w
def pC_X29_go_0 (p : Nat) (call : Nat → List ZA → CW → (ZRes → CW → Prop) → Prop) (Q : Nat → CW → Prop) (x0 : Nat) (x1 : Nat) (w : CW) : Prop :=
  (hF 109 (tg w x0) = true) ∧
  (tg w (fR w 109 x0) = 15) ∧
  call 131 [ar (fR w 109 x0), ar x1] w (zqR (fun v3 u2 =>
    (v3 = 0 ∨ zca (tg u2 v3) "LetterPost$Whole" = true) ∧
    (hF 115 (tg u2 v3) = true) ∧
    ∀ x2_6 : Int, x2_6 = fI u2 115 v3 →
    pC_X29_go_17 p call Q x0 x2_6 0 u2) zno)
/-! LetterPost$Value.<init>(II)V -/
def pC_X30_init_0 (p : Nat) (call : Nat → List ZA → CW → (ZRes → CW → Prop) → Prop) (Q : CW → Prop) (x0 : Nat) (x1 : Int) (x2 : Int) (w : CW) : Prop :=
  (¬ x0 = 0) ∧
  (hP 113 (tg w x0) = true) ∧
  ∀ u3 : CW, u3 = pI w 113 x0 x1 →
  (hP 114 (tg u3 x0) = true) ∧
  ∀ u5 : CW, u5 = pI u3 114 x0 x2 →
  Q u5
/-! LetterPost$Value.kind()LLetterPost$Kind; -/
def pC_X30_kind_0 (p : Nat) (call : Nat → List ZA → CW → (ZRes → CW → Prop) → Prop) (Q : Nat → CW → Prop) (w : CW) : Prop :=
  Q 0 w
/-! LetterPost$Value.told()I -/
def pC_X30_told_0 (p : Nat) (call : Nat → List ZA → CW → (ZRes → CW → Prop) → Prop) (Q : Int → CW → Prop) (w : CW) : Prop :=
  Q (-4) w
/-! LetterPost$Whole.<init>(II)V -/
def pC_X31_init_0 (p : Nat) (call : Nat → List ZA → CW → (ZRes → CW → Prop) → Prop) (Q : CW → Prop) (x0 : Nat) (x1 : Int) (x2 : Int) (w : CW) : Prop :=
  (¬ x0 = 0) ∧
  call 183 [ar x0, ai x1, ai 1] w (zqV (fun u1 =>
    (hP 115 (tg u1 x0) = true) ∧
    ∀ u3 : CW, u3 = pI u1 115 x0 x2 →
    Q u3) zno)
/-! LetterPost$Whole.what()I -/
def pC_X31_what_0 (p : Nat) (call : Nat → List ZA → CW → (ZRes → CW → Prop) → Prop) (Q : Int → CW → Prop) (w : CW) : Prop :=
  Q 0 w
/-! LetterPost$Whole.told()I -/
def pC_X31_told_0 (p : Nat) (call : Nat → List ZA → CW → (ZRes → CW → Prop) → Prop) (Q : Int → CW → Prop) (x0 : Nat) (w : CW) : Prop :=
  (hF 115 (tg w x0) = true) ∧
  Q (fI w 115 x0) w
/-! LetterPost$Whole.isLike(LLetterPost$Value;)Z -/
def pC_X31_isLike_0 (p : Nat) (call : Nat → List ZA → CW → (ZRes → CW → Prop) → Prop) (Q : Int → CW → Prop) (x0 : Nat) (x1 : Nat) (w : CW) : Prop :=
  call (vm13 (tg w x0)) [ar x0] w (zqI (fun v2 u1 =>
    call (vm5 (tg u1 x1)) [ar x1] u1 (zqI (fun v4 u3 =>
      ((v2 = v4 → (hF 115 (tg u3 x0) = true) ∧ (x1 = 0 ∨ zca (tg u3 x1) "LetterPost$Whole" = true) ∧ (hF 115 (tg u3 x1) = true))) ∧
      ∀ v5 : Int, v5 = (if (v2 = v4) ∧ ((fI u3 115 x0) = (fI u3 115 x1)) then 1 else 0) →
      Q v5 u3) zno)) zno)
/-! LetterPost$Truth.<init>(IZ)V -/
def pC_X32_init_0 (p : Nat) (call : Nat → List ZA → CW → (ZRes → CW → Prop) → Prop) (Q : CW → Prop) (x0 : Nat) (x1 : Int) (x2 : Int) (w : CW) : Prop :=
  ∀ v1 : Int, v1 = (if ¬ (x2 = 0) then 1 else 0) →
  (¬ x0 = 0) ∧
  call 186 [ar x0, ai x1, ai v1] w (zqV (fun u2 =>
    Q u2) zno)
/-! LetterPost$Truth.what()I -/
def pC_X32_what_0 (p : Nat) (call : Nat → List ZA → CW → (ZRes → CW → Prop) → Prop) (Q : Int → CW → Prop) (w : CW) : Prop :=
  Q 1 w
/-! LetterPost$Text.<init>(IJ)V -/
def pC_X33_init_0 (p : Nat) (call : Nat → List ZA → CW → (ZRes → CW → Prop) → Prop) (Q : CW → Prop) (x0 : Nat) (x1 : Int) (x2 : Int) (w : CW) : Prop :=
  (¬ x0 = 0) ∧
  call 183 [ar x0, ai x1, ai 1] w (zqV (fun u1 =>
    (hP 116 (tg u1 x0) = true) ∧
    ∀ u3 : CW, u3 = pI u1 116 x0 x2 →
    Q u3) zno)
/-! LetterPost$Text.what()I -/
def pC_X33_what_0 (p : Nat) (call : Nat → List ZA → CW → (ZRes → CW → Prop) → Prop) (Q : Int → CW → Prop) (w : CW) : Prop :=
  Q 2 w
/-! LetterPost$Text.told()I -/
def pC_X33_told_24 (p : Nat) (call : Nat → List ZA → CW → (ZRes → CW → Prop) → Prop) (Q : Int → CW → Prop) (x1 : Int) (w : CW) : Prop :=
  Q x1 w
def pC_X33_told_7 (p : Nat) (call : Nat → List ZA → CW → (ZRes → CW → Prop) → Prop) (Q : Int → CW → Prop) (x1 : Int) (x2 : Int) (w : CW) : Prop :=
  ∀ I7 : Int → Int → CW → Prop, (∀ (x1 : Int) (x2 : Int) (w : CW), (
    (x2 = 0 →
      pC_X33_told_24 p call Q x1 w) ∧
    (¬ (x2 = 0) →
      ∀ x1_4 : Int, x1_4 = w32 (x1 + 1) →
      ∀ x2_5 : Int, x2_5 = l_ushr x2 8 →
      I7 x1_4 x2_5 w)) → I7 x1 x2 w) → I7 x1 x2 w
def pC_X33_told_0 (p : Nat) (call : Nat → List ZA → CW → (ZRes → CW → Prop) → Prop) (Q : Int → CW → Prop) (x0 : Nat) (w : CW) : Prop :=
  (hF 116 (tg w x0) = true) ∧
  ∀ x2_2 : Int, x2_2 = fI w 116 x0 →
  pC_X33_told_7 p call Q 0 x2_2 w
/-! LetterPost$Text.isLike(LLetterPost$Value;)Z -/
def pC_X33_isLike_0 (p : Nat) (call : Nat → List ZA → CW → (ZRes → CW → Prop) → Prop) (Q : Int → CW → Prop) (x0 : Nat) (x1 : Nat) (w : CW) : Prop :=
  (x1 = 0 ∨ zca (tg w x1) "LetterPost$Text" = true ∨ znc (tg w x1) "LetterPost$Text" = true) ∧
  ((zca (tg w x1) "LetterPost$Text" = true → (hF 116 (tg w x0) = true) ∧ (x1 = 0 ∨ zca (tg w x1) "LetterPost$Text" = true) ∧ (hF 116 (tg w x1) = true))) ∧
  ∀ v2 : Int, v2 = (if (zca (tg w x1) "LetterPost$Text" = true) ∧ ((fI w 116 x0) = (fI w 116 x1)) then 1 else 0) →
  Q v2 w
/-! LetterPost$Nothing.<init>(II)V -/
def pC_X34_init_0 (p : Nat) (call : Nat → List ZA → CW → (ZRes → CW → Prop) → Prop) (Q : CW → Prop) (x0 : Nat) (x1 : Int) (x2 : Int) (w : CW) : Prop :=
  (¬ x0 = 0) ∧
  call 183 [ar x0, ai x1, ai x2] w (zqV (fun u1 =>
    Q u1) zno)
/-! LetterPost$Nothing.what()I -/
def pC_X34_what_0 (p : Nat) (call : Nat → List ZA → CW → (ZRes → CW → Prop) → Prop) (Q : Int → CW → Prop) (w : CW) : Prop :=
  Q 3 w
/-! LetterPost$Nothing.isLike(LLetterPost$Value;)Z -/
def pC_X34_isLike_0 (p : Nat) (call : Nat → List ZA → CW → (ZRes → CW → Prop) → Prop) (Q : Int → CW → Prop) (x0 : Nat) (x1 : Nat) (w : CW) : Prop :=
  call (vm14 (tg w x0)) [ar x0] w (zqI (fun v2 u1 =>
    call (vm5 (tg u1 x1)) [ar x1] u1 (zqI (fun v4 u3 =>
      ∀ v5 : Int, v5 = (if v2 = v4 then 1 else 0) →
      Q v5 u3) zno)) zno)
/-! LetterPost$Letter.what()I -/
def pC_X35_what_0 (p : Nat) (call : Nat → List ZA → CW → (ZRes → CW → Prop) → Prop) (Q : Int → CW → Prop) (w : CW) : Prop :=
  Q 4 w
/-! LetterPost$Letter.kind()LLetterPost$Kind; -/
def pC_X35_kind_0 (p : Nat) (call : Nat → List ZA → CW → (ZRes → CW → Prop) → Prop) (Q : Nat → CW → Prop) (x0 : Nat) (w : CW) : Prop :=
  (hF 117 (tg w x0) = true) ∧
  Q (fR w 117 x0) w
/-! LetterPost$Letter.<init>(IILLetterPost$Kind;[LLetterPost$Value;)V -/
def pC_X35_init_0 (p : Nat) (call : Nat → List ZA → CW → (ZRes → CW → Prop) → Prop) (Q : CW → Prop) (x0 : Nat) (x1 : Int) (x2 : Int) (x3 : Nat) (x4 : Nat) (w : CW) : Prop :=
  (¬ x0 = 0) ∧
  call 196 [ar x0, ai x1, ai x2] w (zqV (fun u1 =>
    (hP 117 (tg u1 x0) = true) ∧
    ∀ u3 : CW, u3 = pR u1 117 x0 x3 →
    (hP 118 (tg u3 x0) = true) ∧
    ∀ u5 : CW, u5 = pR u3 118 x0 x4 →
    Q u5) zno)
/-! LetterPost$Letter.told()I -/
def pC_X35_told_0 (p : Nat) (call : Nat → List ZA → CW → (ZRes → CW → Prop) → Prop) (Q : Int → CW → Prop) (x0 : Nat) (w : CW) : Prop :=
  (hF 117 (tg w x0) = true) ∧
  (hF 37 (tg w (fR w 117 x0)) = true) ∧
  Q (fI w 37 (fR w 117 x0)) w
/-! LetterPost$Letter.isLike(LLetterPost$Value;)Z -/
def pC_X35_isLike_65 (p : Nat) (call : Nat → List ZA → CW → (ZRes → CW → Prop) → Prop) (Q : Int → CW → Prop) (x2 : Int) (w : CW) : Prop :=
  (x2 = 0 ∨ x2 = 1) ∧
  Q x2 w
def pC_X35_isLike_27 (p : Nat) (call : Nat → List ZA → CW → (ZRes → CW → Prop) → Prop) (Q : Int → CW → Prop) (x0 : Nat) (x1 : Nat) (x2 : Int) (x3 : Int) (w : CW) : Prop :=
  ∀ I27 : Int → Int → CW → Prop, (∀ (x2 : Int) (x3 : Int) (w : CW), (
    ((¬ (x2 = 0) → (hF 118 (tg w x0) = true) ∧ (101 ≤ tg w (fR w 118 x0) ∧ tg w (fR w 118 x0) ≤ 119 ∧ (tg w (fR w 118 x0) < 107 ∨ 111 ≤ tg w (fR w 118 x0))))) ∧
    (¬ (x2 = 0) ∧ (¬ (((ln w (fR w 118 x0) : Nat) : Int) ≤ x3)) →
      (hF 118 (tg w x0) = true) ∧
      ((111 ≤ tg w (fR w 118 x0) ∧ tg w (fR w 118 x0) ≤ 119) ∧ 0 ≤ x3 ∧ x3 < ln w (fR w 118 x0)) ∧
      (x1 = 0 ∨ zca (tg w x1) "LetterPost$Letter" = true) ∧
      (hF 118 (tg w x1) = true) ∧
      ((111 ≤ tg w (fR w 118 x1) ∧ tg w (fR w 118 x1) ≤ 119) ∧ 0 ≤ x3 ∧ x3 < ln w (fR w 118 x1)) ∧
      call (vm7 (tg w (aR w (fR w 118 x0) x3))) [ar (aR w (fR w 118 x0) x3), ar (aR w (fR w 118 x1) x3)] w (zqI (fun v11 u10 =>
        ∀ x3_12 : Int, x3_12 = w32 (x3 + 1) →
        I27 v11 x3_12 u10) zno)) ∧
    (¬ (¬ (x2 = 0) ∧ (¬ (((ln w (fR w 118 x0) : Nat) : Int) ≤ x3))) →
      pC_X35_isLike_65 p call Q x2 w)) → I27 x2 x3 w) → I27 x2 x3 w
def pC_X35_isLike_24 (p : Nat) (call : Nat → List ZA → CW → (ZRes → CW → Prop) → Prop) (Q : Int → CW → Prop) (x0 : Nat) (x1 : Nat) (s0 : Int) (w : CW) : Prop :=
  pC_X35_isLike_27 p call Q x0 x1 s0 0 w
def pC_X35_isLike_23 (p : Nat) (call : Nat → List ZA → CW → (ZRes → CW → Prop) → Prop) (Q : Int → CW → Prop) (x0 : Nat) (x1 : Nat) (w : CW) : Prop :=
  pC_X35_isLike_24 p call Q x0 x1 0 w
def pC_X35_isLike_0 (p : Nat) (call : Nat → List ZA → CW → (ZRes → CW → Prop) → Prop) (Q : Int → CW → Prop) (x0 : Nat) (x1 : Nat) (w : CW) : Prop :=
  (1 ≤ tg w x0 ∧ tg w x0 ≤ 35) ∧
  call 198 [ar x0, ar x1] w (zqI (fun v2 u1 =>
    (v2 = 0 →
      pC_X35_isLike_23 p call Q x0 x1 u1) ∧
    (¬ (v2 = 0) →
      (hF 117 (tg u1 x0) = true) ∧
      call (vm4 (tg u1 x1)) [ar x1] u1 (zqR (fun v26 u25 =>
        ((fR u1 117 x0) = v26 →
          pC_X35_isLike_24 p call Q x0 x1 1 u25) ∧
        (¬ ((fR u1 117 x0) = v26) →
          pC_X35_isLike_23 p call Q x0 x1 u25)) zno))) zno)
/-! java/lang/Throwable.<init>(Ljava/lang/String;Ljava/lang/Throwable;ZZ)V -/
def pC_J0_init_2_60 (p : Nat) (call : Nat → List ZA → CW → (ZRes → CW → Prop) → Prop) (Q : CW → Prop) (w : CW) : Prop :=
  Q w
def pC_J0_init_2_41 (p : Nat) (call : Nat → List ZA → CW → (ZRes → CW → Prop) → Prop) (Q : CW → Prop) (x0 : Nat) (x1 : Nat) (x2 : Nat) (x3 : Int) (w : CW) : Prop :=
  (hP 32 (tg w x0) = true) ∧
  ∀ u16 : CW, u16 = pR w 32 x0 x1 →
  (hP 29 (tg u16 x0) = true) ∧
  ∀ u18 : CW, u18 = pR u16 29 x0 x2 →
  (x3 = 0 →
    (hP 31 (tg u18 x0) = true) ∧
    ∀ u21 : CW, u21 = pR u18 31 x0 0 →
    pC_J0_init_2_60 p call Q u21) ∧
  (¬ (x3 = 0) →
    pC_J0_init_2_60 p call Q u18)
def pC_J0_init_2_0 (p : Nat) (call : Nat → List ZA → CW → (ZRes → CW → Prop) → Prop) (Q : CW → Prop) (x0 : Nat) (x1 : Nat) (x2 : Nat) (x3 : Int) (x4 : Int) (w : CW) : Prop :=
  (¬ x0 = 0) ∧
  (hP 29 (tg w x0) = true) ∧
  ∀ u3 : CW, u3 = pR w 29 x0 x0 →
  ∀ v6 : Nat,
  (hP 30 (tg u3 x0) = true) ∧
  ∀ u7 : CW, u7 = pR u3 30 x0 v6 →
  ∀ v10 : Nat,
  (hP 31 (tg u7 x0) = true) ∧
  ∀ u11 : CW, u11 = pR u7 31 x0 v10 →
  (x4 = 0 →
    (hP 30 (tg u11 x0) = true) ∧
    ∀ u14 : CW, u14 = pR u11 30 x0 0 →
    pC_J0_init_2_41 p call Q x0 x1 x2 x3 u14) ∧
  (¬ (x4 = 0) →
    False)
/-! java/lang/Exception.<init>(Ljava/lang/String;Ljava/lang/Throwable;ZZ)V -/
def pC_J1_init_0 (p : Nat) (call : Nat → List ZA → CW → (ZRes → CW → Prop) → Prop) (Q : CW → Prop) (x0 : Nat) (x1 : Nat) (x2 : Nat) (x3 : Int) (x4 : Int) (w : CW) : Prop :=
  (¬ x0 = 0) ∧
  call 204 [ar x0, ar x1, ar x2, ai x3, ai x4] w (zqV (fun u1 =>
    Q u1) zno)
/-! java/lang/AbstractStringBuilder.<init>(Ljava/lang/String;)V -/
def pC_J2_init_53 (p : Nat) (call : Nat → List ZA → CW → (ZRes → CW → Prop) → Prop) (Q : CW → Prop) (x0 : Nat) (x1 : Nat) (s0 : Nat) (s1 : Nat) (w : CW) : Prop :=
  (hP 119 (tg w s1) = true) ∧
  ∀ u16 : CW, u16 = pR w 119 s1 s0 →
  (tg u16 x0 = 31) ∧
  call 216 [ar x0, ar x1] u16 (zqR (fun v19 u18 =>
    Q u18) zno)
def pC_J2_init_0 (p : Nat) (call : Nat → List ZA → CW → (ZRes → CW → Prop) → Prop) (Q : CW → Prop) (x0 : Nat) (x1 : Nat) (w : CW) : Prop :=
  (¬ x0 = 0) ∧
  (tg w x1 = 32 ∨ tg w x1 = 34) ∧
  call 221 [ar x1] w (zqI (fun v4 u3 =>
    ∀ v5 : Int, v5 = (if ¬ (2147483631 ≤ v4) then w32 (v4 + 16) else 2147483647) →
    (tg u3 x1 = 32 ∨ tg u3 x1 = 34) ∧
    call 222 [ar x1] u3 (zqI (fun v7 u6 =>
      (hP 120 (tg u6 x0) = true) ∧
      (-128 ≤ v7 ∧ v7 ≤ 127) ∧
      ∀ u8 : CW, u8 = pI u6 120 x0 v7 →
      (v7 = 0 →
        ((0 ≤ v5 ∧ v5 ≤ 1000000) ∧ cz u8 + 1 ≤ mz u8 ∧ cu u8 + Int.toNat v5 ≤ mu u8) ∧
        ∀ u14 : CW, u14 = nA u8 101 (Int.toNat v5) →
        pC_J2_init_53 p call Q x0 x1 (cz u8 + 1) x0 u14) ∧
      (¬ (v7 = 0) →
        False)) zno)) zno)
/-! java/lang/AbstractStringBuilder.append(Ljava/lang/String;)Ljava/lang/AbstractStringBuilder; -/
def pC_J2_append_0 (p : Nat) (call : Nat → List ZA → CW → (ZRes → CW → Prop) → Prop) (Q : Nat → CW → Prop) (x0 : Nat) (x1 : Nat) (w : CW) : Prop :=
  (x1 = 0 →
    False) ∧
  (¬ (x1 = 0) →
    (tg w x1 = 32 ∨ tg w x1 = 34) ∧
    call 221 [ar x1] w (zqI (fun v3 u2 =>
      (hF 122 (tg u2 x0) = true) ∧
      (tg u2 x0 = 31) ∧
      call 208 [ar x0, ai (w32 ((fI u2 122 x0) + v3))] u2 (zqV (fun u5 =>
        (hF 122 (tg u5 x0) = true) ∧
        (tg u5 x0 = 31) ∧
        call 210 [ar x0, ai (fI u5 122 x0), ar x1] u5 (zqV (fun u8 =>
          (hF 122 (tg u8 x0) = true) ∧
          (hP 122 (tg u8 x0) = true) ∧
          ∀ u11 : CW, u11 = pI u8 122 x0 (w32 ((fI u8 122 x0) + v3)) →
          Q x0 u11) zno)) zno)) zno))
/-! java/lang/AbstractStringBuilder.ensureCapacityInternal(I)V -/
def pC_J2_ensureCapacityInternal_38 (p : Nat) (call : Nat → List ZA → CW → (ZRes → CW → Prop) → Prop) (Q : CW → Prop) (w : CW) : Prop :=
  Q w
def pC_J2_ensureCapacityInternal_0 (p : Nat) (call : Nat → List ZA → CW → (ZRes → CW → Prop) → Prop) (Q : CW → Prop) (x0 : Nat) (x1 : Int) (w : CW) : Prop :=
  (hF 119 (tg w x0) = true) ∧
  (101 ≤ tg w (fR w 119 x0) ∧ tg w (fR w 119 x0) ≤ 119 ∧ (tg w (fR w 119 x0) < 107 ∨ 111 ≤ tg w (fR w 119 x0))) ∧
  (hF 120 (tg w x0) = true) ∧
  ∀ x2_4 : Int, x2_4 = i_shr ((ln w (fR w 119 x0) : Nat) : Int) (fI w 120 x0) →
  ((w32 (x1 - x2_4)) ≤ 0 →
    pC_J2_ensureCapacityInternal_38 p call Q w) ∧
  (¬ ((w32 (x1 - x2_4)) ≤ 0) →
    (hF 119 (tg w x0) = true) ∧
    False)
/-! java/lang/AbstractStringBuilder.isLatin1()Z -/
def pC_J2_isLatin1_0 (p : Nat) (call : Nat → List ZA → CW → (ZRes → CW → Prop) → Prop) (Q : Int → CW → Prop) (x0 : Nat) (w : CW) : Prop :=
  ((¬ ((1 : Int) = 0) → (hF 120 (tg w x0) = true))) ∧
  ∀ v1 : Int, v1 = (if ¬ ((1 : Int) = 0) ∧ ((fI w 120 x0) = 0) then 1 else 0) →
  Q v1 w
/-! java/lang/AbstractStringBuilder.putStringAt(ILjava/lang/String;)V -/
def pC_J2_putStringAt_0 (p : Nat) (call : Nat → List ZA → CW → (ZRes → CW → Prop) → Prop) (Q : CW → Prop) (x0 : Nat) (x1 : Int) (x2 : Nat) (w : CW) : Prop :=
  (tg w x0 = 31) ∧
  call 211 [ar x0, ar x2] w (zqV (fun u1 =>
    (hF 119 (tg u1 x0) = true) ∧
    (hF 120 (tg u1 x0) = true) ∧
    (tg u1 x2 = 32 ∨ tg u1 x2 = 34) ∧
    call 223 [ar x2, ar (fR u1 119 x0), ai x1, ai (fI u1 120 x0)] u1 (zqV (fun u5 =>
      Q u5) zno)) zno)
/-! java/lang/AbstractStringBuilder.inflateIfNeededFor(Ljava/lang/String;)V -/
def pC_J2_inflateIfNeededFor_21 (p : Nat) (call : Nat → List ZA → CW → (ZRes → CW → Prop) → Prop) (Q : CW → Prop) (w : CW) : Prop :=
  Q w
def pC_J2_inflateIfNeededFor_0 (p : Nat) (call : Nat → List ZA → CW → (ZRes → CW → Prop) → Prop) (Q : CW → Prop) (x0 : Nat) (x1 : Nat) (w : CW) : Prop :=
  ((1 : Int) = 0 →
    pC_J2_inflateIfNeededFor_21 p call Q w) ∧
  (¬ ((1 : Int) = 0) →
    (hF 120 (tg w x0) = true) ∧
    (tg w x1 = 32 ∨ tg w x1 = 34) ∧
    call 222 [ar x1] w (zqI (fun v4 u3 =>
      ((fI w 120 x0) = v4 →
        pC_J2_inflateIfNeededFor_21 p call Q u3) ∧
      (¬ ((fI w 120 x0) = v4) →
        False)) zno))
/-! java/lang/AbstractStringBuilder.append(C)Ljava/lang/AbstractStringBuilder; -/
def pC_J2_append_2_56 (p : Nat) (call : Nat → List ZA → CW → (ZRes → CW → Prop) → Prop) (Q : Nat → CW → Prop) (x0 : Nat) (x1 : Int) (w : CW) : Prop :=
  (hF 119 (tg w x0) = true) ∧
  (hF 122 (tg w x0) = true) ∧
  (hP 122 (tg w x0) = true) ∧
  ∀ u12 : CW, u12 = pI w 122 x0 (w32 ((fI w 122 x0) + 1)) →
  False
def pC_J2_append_2_45 (p : Nat) (call : Nat → List ZA → CW → (ZRes → CW → Prop) → Prop) (Q : Nat → CW → Prop) (x0 : Nat) (x1 : Int) (w : CW) : Prop :=
  (tg w x0 = 31) ∧
  call 209 [ar x0] w (zqI (fun v8 u7 =>
    (v8 = 0 →
      pC_J2_append_2_56 p call Q x0 x1 u7) ∧
    (¬ (v8 = 0) →
      False)) zno)
def pC_J2_append_2_75 (p : Nat) (call : Nat → List ZA → CW → (ZRes → CW → Prop) → Prop) (Q : Nat → CW → Prop) (x0 : Nat) (w : CW) : Prop :=
  Q x0 w
def pC_J2_append_2_0 (p : Nat) (call : Nat → List ZA → CW → (ZRes → CW → Prop) → Prop) (Q : Nat → CW → Prop) (x0 : Nat) (x1 : Int) (w : CW) : Prop :=
  (hF 122 (tg w x0) = true) ∧
  (tg w x0 = 31) ∧
  call 208 [ar x0, ai (w32 ((fI w 122 x0) + 1))] w (zqV (fun u2 =>
    (tg u2 x0 = 31) ∧
    call 209 [ar x0] u2 (zqI (fun v5 u4 =>
      (v5 = 0 →
        pC_J2_append_2_45 p call Q x0 x1 u4) ∧
      (¬ (v5 = 0) →
        call 239 [ai x1] u4 (zqI (fun v20 u19 =>
          (v20 = 0 →
            pC_J2_append_2_45 p call Q x0 x1 u19) ∧
          (¬ (v20 = 0) →
            (hF 119 (tg u19 x0) = true) ∧
            (hF 122 (tg u19 x0) = true) ∧
            (hP 122 (tg u19 x0) = true) ∧
            ∀ u24 : CW, u24 = pI u19 122 x0 (w32 ((fI u19 122 x0) + 1)) →
            ((tg u24 (fR u19 119 x0) = 101 ∨ tg u24 (fR u19 119 x0) = 104) ∧ 0 ≤ (fI u19 122 x0) ∧ (fI u19 122 x0) < ln u24 (fR u19 119 x0)) ∧
            ∀ u26 : CW, u26 = qI u24 (fR u19 119 x0) (fI u19 122 x0) (if tg u24 (fR u19 119 x0) = 104 then zb (i_b x1) else i_b (i_b x1)) →
            pC_J2_append_2_75 p call Q x0 u26)) zno))) zno)) zno)
/-! java/lang/AbstractStringBuilder.getValue()[B -/
def pC_J2_getValue_0 (p : Nat) (call : Nat → List ZA → CW → (ZRes → CW → Prop) → Prop) (Q : Nat → CW → Prop) (x0 : Nat) (w : CW) : Prop :=
  (hF 119 (tg w x0) = true) ∧
  Q (fR w 119 x0) w
/-! java/lang/AbstractStringBuilder.length()I -/
def pC_J2_length_0 (p : Nat) (call : Nat → List ZA → CW → (ZRes → CW → Prop) → Prop) (Q : Int → CW → Prop) (x0 : Nat) (w : CW) : Prop :=
  (hF 122 (tg w x0) = true) ∧
  Q (fI w 122 x0) w
/-! java/lang/StringBuilder.<init>(Ljava/lang/String;)V -/
def pC_J3_init_0 (p : Nat) (call : Nat → List ZA → CW → (ZRes → CW → Prop) → Prop) (Q : CW → Prop) (x0 : Nat) (x1 : Nat) (w : CW) : Prop :=
  (¬ x0 = 0) ∧
  call 206 [ar x0, ar x1] w (zqV (fun u1 =>
    Q u1) zno)
/-! java/lang/StringBuilder.append(Ljava/lang/String;)Ljava/lang/AbstractStringBuilder; -/
def pC_J3_append_0 (p : Nat) (call : Nat → List ZA → CW → (ZRes → CW → Prop) → Prop) (Q : Nat → CW → Prop) (x0 : Nat) (x1 : Nat) (w : CW) : Prop :=
  (tg w x0 = 31) ∧
  call 217 [ar x0, ar x1] w (zqR (fun v2 u1 =>
    Q v2 u1) zno)
/-! java/lang/StringBuilder.append(Ljava/lang/String;)Ljava/lang/StringBuilder; -/
def pC_J3_append_2_0 (p : Nat) (call : Nat → List ZA → CW → (ZRes → CW → Prop) → Prop) (Q : Nat → CW → Prop) (x0 : Nat) (x1 : Nat) (w : CW) : Prop :=
  (1 ≤ tg w x0 ∧ tg w x0 ≤ 35) ∧
  call 207 [ar x0, ar x1] w (zqR (fun v2 u1 =>
    Q x0 u1) zno)
/-! java/lang/StringBuilder.append(C)Ljava/lang/StringBuilder; -/
def pC_J3_append_3_0 (p : Nat) (call : Nat → List ZA → CW → (ZRes → CW → Prop) → Prop) (Q : Nat → CW → Prop) (x0 : Nat) (x1 : Int) (w : CW) : Prop :=
  (1 ≤ tg w x0 ∧ tg w x0 ≤ 35) ∧
  call 212 [ar x0, ai x1] w (zqR (fun v2 u1 =>
    Q x0 u1) zno)
/-! java/lang/StringBuilder.toString()Ljava/lang/String; -/
def pC_J3_toString_0 (p : Nat) (call : Nat → List ZA → CW → (ZRes → CW → Prop) → Prop) (Q : Nat → CW → Prop) (x0 : Nat) (w : CW) : Prop :=
  (cz w + 1 ≤ mz w ∧ cu w + 4 ≤ mu w) ∧
  ∀ u1 : CW, u1 = nO w 32 4 →
  call 225 [ar (cz w + 1), ar x0] u1 (zqV (fun u3 =>
    Q (cz w + 1) u3) zno)
/-! java/lang/StringBuilder.length()I -/
def pC_J3_length_0 (p : Nat) (call : Nat → List ZA → CW → (ZRes → CW → Prop) → Prop) (Q : Int → CW → Prop) (x0 : Nat) (w : CW) : Prop :=
  (1 ≤ tg w x0 ∧ tg w x0 ≤ 35) ∧
  call 214 [ar x0] w (zqI (fun v2 u1 =>
    Q v2 u1) zno)
/-! java/lang/String.length()I -/
def pC_J4_length_0 (p : Nat) (call : Nat → List ZA → CW → (ZRes → CW → Prop) → Prop) (Q : Int → CW → Prop) (x0 : Nat) (w : CW) : Prop :=
  (hF 123 (tg w x0) = true) ∧
  (101 ≤ tg w (fR w 123 x0) ∧ tg w (fR w 123 x0) ≤ 119 ∧ (tg w (fR w 123 x0) < 107 ∨ 111 ≤ tg w (fR w 123 x0))) ∧
  (tg w x0 = 32 ∨ tg w x0 = 34) ∧
  call 222 [ar x0] w (zqI (fun v4 u3 =>
    Q (i_shr ((ln w (fR w 123 x0) : Nat) : Int) v4) u3) zno)
/-! java/lang/String.coder()B -/
def pC_J4_coder_0 (p : Nat) (call : Nat → List ZA → CW → (ZRes → CW → Prop) → Prop) (Q : Int → CW → Prop) (x0 : Nat) (w : CW) : Prop :=
  ((¬ ((1 : Int) = 0) → (hF 124 (tg w x0) = true))) ∧
  ∀ v1 : Int, v1 = (if (1 : Int) = 0 then 1 else fI w 124 x0) →
  (-128 ≤ v1 ∧ v1 ≤ 127) ∧
  Q v1 w
/-! java/lang/String.getBytes([BIB)V -/
def pC_J4_getBytes_43 (p : Nat) (call : Nat → List ZA → CW → (ZRes → CW → Prop) → Prop) (Q : CW → Prop) (w : CW) : Prop :=
  Q w
def pC_J4_getBytes_0 (p : Nat) (call : Nat → List ZA → CW → (ZRes → CW → Prop) → Prop) (Q : CW → Prop) (x0 : Nat) (x1 : Nat) (x2 : Int) (x3 : Int) (w : CW) : Prop :=
  (tg w x0 = 32 ∨ tg w x0 = 34) ∧
  call 222 [ar x0] w (zqI (fun v2 u1 =>
    (v2 = x3 →
      (hF 123 (tg u1 x0) = true) ∧
      (hF 123 (tg u1 x0) = true) ∧
      (101 ≤ tg u1 (fR u1 123 x0) ∧ tg u1 (fR u1 123 x0) ≤ 119 ∧ (tg u1 (fR u1 123 x0) < 107 ∨ 111 ≤ tg u1 (fR u1 123 x0))) ∧
      ((0 ≤ (0 : Int) ∧ 0 ≤ (i_shl x2 x3) ∧ 0 ≤ ((ln u1 (fR u1 123 x0) : Nat) : Int) ∧ (0 : Int) + ((ln u1 (fR u1 123 x0) : Nat) : Int) ≤ ln u1 (fR u1 123 x0) ∧ (i_shl x2 x3) + ((ln u1 (fR u1 123 x0) : Nat) : Int) ≤ ln u1 x1) ∧ cpOk u1 (fR u1 123 x0) 0 x1 ((ln u1 (fR u1 123 x0) : Nat) : Int)) ∧
      ∀ u12 : CW, u12 = qC u1 (fR u1 123 x0) 0 x1 (i_shl x2 x3) ((ln u1 (fR u1 123 x0) : Nat) : Int) →
      pC_J4_getBytes_43 p call Q u12) ∧
    (¬ (v2 = x3) →
      (hF 123 (tg u1 x0) = true) ∧
      (hF 123 (tg u1 x0) = true) ∧
      (101 ≤ tg u1 (fR u1 123 x0) ∧ tg u1 (fR u1 123 x0) ≤ 119 ∧ (tg u1 (fR u1 123 x0) < 107 ∨ 111 ≤ tg u1 (fR u1 123 x0))) ∧
      False)) zno)
/-! java/lang/String.checkIndex(II)V -/
def pC_J4_checkIndex_0 (p : Nat) (call : Nat → List ZA → CW → (ZRes → CW → Prop) → Prop) (Q : CW → Prop) (x0 : Int) (x1 : Int) (w : CW) : Prop :=
  ∀ v2 : Nat,
  call 238 [ai x0, ai x1, ar v2] w (zqI (fun v4 u3 =>
    Q u3) zno)
/-! java/lang/String.<init>(Ljava/lang/StringBuilder;)V -/
def pC_J4_init_0 (p : Nat) (call : Nat → List ZA → CW → (ZRes → CW → Prop) → Prop) (Q : CW → Prop) (x0 : Nat) (x1 : Nat) (w : CW) : Prop :=
  (¬ x0 = 0) ∧
  call 226 [ar x0, ar x1, ar 0] w (zqV (fun u1 =>
    Q u1) zno)
/-! java/lang/String.<init>(Ljava/lang/AbstractStringBuilder;Ljava/lang/Void;)V -/
def pC_J4_init_2_97 (p : Nat) (call : Nat → List ZA → CW → (ZRes → CW → Prop) → Prop) (Q : CW → Prop) (w : CW) : Prop :=
  Q w
def pC_J4_init_2_79 (p : Nat) (call : Nat → List ZA → CW → (ZRes → CW → Prop) → Prop) (Q : CW → Prop) (x0 : Nat) (x3 : Nat) (x4 : Int) (w : CW) : Prop :=
  (hP 124 (tg w x0) = true) ∧
  ∀ u13 : CW, u13 = pI w 124 x0 1 →
  call 234 [ar x3, ai 0, ai (i_shl x4 1)] u13 (zqR (fun v16 u15 =>
    (hP 123 (tg u15 x0) = true) ∧
    ∀ u17 : CW, u17 = pR u15 123 x0 v16 →
    pC_J4_init_2_97 p call Q u17) zno)
def pC_J4_init_2_0 (p : Nat) (call : Nat → List ZA → CW → (ZRes → CW → Prop) → Prop) (Q : CW → Prop) (x0 : Nat) (x1 : Nat) (w : CW) : Prop :=
  (¬ x0 = 0) ∧
  (tg w x1 = 31) ∧
  call 213 [ar x1] w (zqR (fun v4 u3 =>
    (tg u3 x1 = 31) ∧
    call 220 [ar x1] u3 (zqI (fun v6 u5 =>
      (tg u5 x1 = 31) ∧
      call 209 [ar x1] u5 (zqI (fun v8 u7 =>
        (v8 = 0 →
          ((¬ ((1 : Int) = 0) → (hF 121 (tg u7 x1) = true))) ∧
          (¬ ((1 : Int) = 0) ∧ (¬ ((fI u7 121 x1) = 0)) →
            False) ∧
          (¬ (¬ ((1 : Int) = 0) ∧ (¬ ((fI u7 121 x1) = 0))) →
            pC_J4_init_2_79 p call Q x0 v4 v6 u7)) ∧
        (¬ (v8 = 0) →
          (hP 124 (tg u7 x0) = true) ∧
          ∀ u24 : CW, u24 = pI u7 124 x0 0 →
          call 234 [ar v4, ai 0, ai v6] u24 (zqR (fun v27 u26 =>
            (hP 123 (tg u26 x0) = true) ∧
            ∀ u28 : CW, u28 = pR u26 123 x0 v27 →
            pC_J4_init_2_97 p call Q u28) zno))) zno)) zno)) zno)
/-! java/lang/String.contains(Ljava/lang/CharSequence;)Z -/
def pC_J4_contains_0 (p : Nat) (call : Nat → List ZA → CW → (ZRes → CW → Prop) → Prop) (Q : Int → CW → Prop) (x0 : Nat) (x1 : Nat) (w : CW) : Prop :=
  call (vm15 (tg w x1)) [ar x1] w (zqR (fun v2 u1 =>
    (tg u1 x0 = 32 ∨ tg u1 x0 = 34) ∧
    call 229 [ar x0, ar v2] u1 (zqI (fun v4 u3 =>
      ∀ v5 : Int, v5 = (if ¬ (v4 < 0) then 1 else 0) →
      Q v5 u3) zno)) zno)
/-! java/lang/String.toString()Ljava/lang/String; -/
def pC_J4_toString_0 (p : Nat) (call : Nat → List ZA → CW → (ZRes → CW → Prop) → Prop) (Q : Nat → CW → Prop) (x0 : Nat) (w : CW) : Prop :=
  Q x0 w
/-! java/lang/String.indexOf(Ljava/lang/String;)I -/
def pC_J4_indexOf_45 (p : Nat) (call : Nat → List ZA → CW → (ZRes → CW → Prop) → Prop) (Q : Int → CW → Prop) (s0 : Int) (w : CW) : Prop :=
  Q s0 w
def pC_J4_indexOf_0 (p : Nat) (call : Nat → List ZA → CW → (ZRes → CW → Prop) → Prop) (Q : Int → CW → Prop) (x0 : Nat) (x1 : Nat) (w : CW) : Prop :=
  (tg w x0 = 32 ∨ tg w x0 = 34) ∧
  call 222 [ar x0] w (zqI (fun v2 u1 =>
    (tg u1 x1 = 32 ∨ tg u1 x1 = 34) ∧
    call 222 [ar x1] u1 (zqI (fun v4 u3 =>
      (v2 = v4 →
        (tg u3 x0 = 32 ∨ tg u3 x0 = 34) ∧
        call 230 [ar x0] u3 (zqI (fun v12 u11 =>
          (v12 = 0 →
            (hF 123 (tg u11 x0) = true) ∧
            (hF 123 (tg u11 x1) = true) ∧
            False) ∧
          (¬ (v12 = 0) →
            (hF 123 (tg u11 x0) = true) ∧
            (hF 123 (tg u11 x1) = true) ∧
            call 240 [ar (fR u11 123 x0), ar (fR u11 123 x1)] u11 (zqI (fun v21 u20 =>
              pC_J4_indexOf_45 p call Q v21 u20) zno))) zno)) ∧
      (¬ (v2 = v4) →
        (v2 = 0 →
          Q (-1) u3) ∧
        (¬ (v2 = 0) →
          (hF 123 (tg u3 x0) = true) ∧
          (hF 123 (tg u3 x1) = true) ∧
          False))) zno)) zno)
/-! java/lang/String.isLatin1()Z -/
def pC_J4_isLatin1_0 (p : Nat) (call : Nat → List ZA → CW → (ZRes → CW → Prop) → Prop) (Q : Int → CW → Prop) (x0 : Nat) (w : CW) : Prop :=
  ((¬ ((1 : Int) = 0) → (hF 124 (tg w x0) = true))) ∧
  ∀ v1 : Int, v1 = (if ¬ ((1 : Int) = 0) ∧ ((fI w 124 x0) = 0) then 1 else 0) →
  Q v1 w
/-! java/lang/String.indexOf(I)I -/
def pC_J4_indexOf_2_0 (p : Nat) (call : Nat → List ZA → CW → (ZRes → CW → Prop) → Prop) (Q : Int → CW → Prop) (x0 : Nat) (x1 : Int) (w : CW) : Prop :=
  (tg w x0 = 32 ∨ tg w x0 = 34) ∧
  call 232 [ar x0, ai x1, ai 0] w (zqI (fun v2 u1 =>
    Q v2 u1) zno)
/-! java/lang/String.indexOf(II)I -/
def pC_J4_indexOf_3_36 (p : Nat) (call : Nat → List ZA → CW → (ZRes → CW → Prop) → Prop) (Q : Int → CW → Prop) (s0 : Int) (w : CW) : Prop :=
  Q s0 w
def pC_J4_indexOf_3_0 (p : Nat) (call : Nat → List ZA → CW → (ZRes → CW → Prop) → Prop) (Q : Int → CW → Prop) (x0 : Nat) (x1 : Int) (x2 : Int) (w : CW) : Prop :=
  (tg w x0 = 32 ∨ tg w x0 = 34) ∧
  call 230 [ar x0] w (zqI (fun v2 u1 =>
    (v2 = 0 →
      (hF 123 (tg u1 x0) = true) ∧
      (tg u1 x0 = 32 ∨ tg u1 x0 = 34) ∧
      call 221 [ar x0] u1 (zqI (fun v6 u5 =>
        False) zno)) ∧
    (¬ (v2 = 0) →
      (hF 123 (tg u1 x0) = true) ∧
      (tg u1 x0 = 32 ∨ tg u1 x0 = 34) ∧
      call 221 [ar x0] u1 (zqI (fun v13 u12 =>
        call 242 [ar (fR u1 123 x0), ai x1, ai x2, ai v13] u12 (zqI (fun v15 u14 =>
          pC_J4_indexOf_3_36 p call Q v15 u14) zno)) zno))) zno)
/-! java/lang/String.charAt(I)C -/
def pC_J4_charAt_0 (p : Nat) (call : Nat → List ZA → CW → (ZRes → CW → Prop) → Prop) (Q : Int → CW → Prop) (x0 : Nat) (x1 : Int) (w : CW) : Prop :=
  (tg w x0 = 32 ∨ tg w x0 = 34) ∧
  call 230 [ar x0] w (zqI (fun v2 u1 =>
    (v2 = 0 →
      (hF 123 (tg u1 x0) = true) ∧
      False) ∧
    (¬ (v2 = 0) →
      (hF 123 (tg u1 x0) = true) ∧
      call 245 [ar (fR u1 123 x0), ai x1] u1 (zqI (fun v9 u8 =>
        (0 ≤ v9 ∧ v9 ≤ 65535) ∧
        Q v9 u8) zno))) zno)
/-! java/util/Arrays.copyOfRange([BII)[B -/
def pC_J8_copyOfRange_10 (p : Nat) (call : Nat → List ZA → CW → (ZRes → CW → Prop) → Prop) (Q : Nat → CW → Prop) (x0 : Nat) (x1 : Int) (x2 : Int) (w : CW) : Prop :=
  call 235 [ar x0, ai x1, ai x2] w (zqR (fun v3 u2 =>
    Q v3 u2) zno)
def pC_J8_copyOfRange_0 (p : Nat) (call : Nat → List ZA → CW → (ZRes → CW → Prop) → Prop) (Q : Nat → CW → Prop) (x0 : Nat) (x1 : Int) (x2 : Int) (w : CW) : Prop :=
  ((x1 = 0 → (101 ≤ tg w x0 ∧ tg w x0 ≤ 119 ∧ (tg w x0 < 107 ∨ 111 ≤ tg w x0)))) ∧
  (¬ (x1 = 0) ∨ (¬ (x2 = ((ln w x0 : Nat) : Int))) →
    pC_J8_copyOfRange_10 p call Q x0 x1 x2 w) ∧
  (¬ (¬ (x1 = 0) ∨ (¬ (x2 = ((ln w x0 : Nat) : Int)))) →
    False)
/-! java/util/Arrays.copyOfRangeByte([BII)[B -/
def pC_J8_copyOfRangeByte_0 (p : Nat) (call : Nat → List ZA → CW → (ZRes → CW → Prop) → Prop) (Q : Nat → CW → Prop) (x0 : Nat) (x1 : Int) (x2 : Int) (w : CW) : Prop :=
  call 236 [ai x1, ai x2] w (zqV (fun u1 =>
    ∀ x3_3 : Int, x3_3 = w32 (x2 - x1) →
    ((0 ≤ x3_3 ∧ x3_3 ≤ 1000000) ∧ cz u1 + 1 ≤ mz u1 ∧ cu u1 + Int.toNat x3_3 ≤ mu u1) ∧
    ∀ u4 : CW, u4 = nA u1 101 (Int.toNat x3_3) →
    (101 ≤ tg u4 x0 ∧ tg u4 x0 ≤ 119 ∧ (tg u4 x0 < 107 ∨ 111 ≤ tg u4 x0)) ∧
    ((0 ≤ x1 ∧ 0 ≤ (0 : Int) ∧ 0 ≤ (if x3_3 < (w32 (((ln u4 x0 : Nat) : Int) - x1)) then x3_3 else (w32 (((ln u4 x0 : Nat) : Int) - x1))) ∧ x1 + (if x3_3 < (w32 (((ln u4 x0 : Nat) : Int) - x1)) then x3_3 else (w32 (((ln u4 x0 : Nat) : Int) - x1))) ≤ ln u4 x0 ∧ (0 : Int) + (if x3_3 < (w32 (((ln u4 x0 : Nat) : Int) - x1)) then x3_3 else (w32 (((ln u4 x0 : Nat) : Int) - x1))) ≤ ln u4 (cz u1 + 1)) ∧ cpOk u4 x0 x1 (cz u1 + 1) (if x3_3 < (w32 (((ln u4 x0 : Nat) : Int) - x1)) then x3_3 else (w32 (((ln u4 x0 : Nat) : Int) - x1)))) ∧
    ∀ u7 : CW, u7 = qC u4 x0 x1 (cz u1 + 1) 0 (if x3_3 < (w32 (((ln u4 x0 : Nat) : Int) - x1)) then x3_3 else (w32 (((ln u4 x0 : Nat) : Int) - x1))) →
    Q (cz u1 + 1) u7) zno)
/-! java/util/Arrays.checkLength(II)V -/
def pC_J8_checkLength_0 (p : Nat) (call : Nat → List ZA → CW → (ZRes → CW → Prop) → Prop) (Q : CW → Prop) (x0 : Int) (x1 : Int) (w : CW) : Prop :=
  (x0 ≤ x1 →
    Q w) ∧
  (¬ (x0 ≤ x1) →
    False)
/-! java/util/Arrays.fill([Ljava/lang/Object;Ljava/lang/Object;)V -/
def pC_J8_fill_20 (p : Nat) (call : Nat → List ZA → CW → (ZRes → CW → Prop) → Prop) (Q : CW → Prop) (w : CW) : Prop :=
  Q w
def pC_J8_fill_5 (p : Nat) (call : Nat → List ZA → CW → (ZRes → CW → Prop) → Prop) (Q : CW → Prop) (x0 : Nat) (x1 : Nat) (x2 : Int) (x3 : Int) (w : CW) : Prop :=
  ∀ I5 : Int → CW → Prop, (∀ (x2 : Int) (w : CW), (
    (x3 ≤ x2 →
      pC_J8_fill_20 p call Q w) ∧
    (¬ (x3 ≤ x2) →
      ((111 ≤ tg w x0 ∧ tg w x0 ≤ 119) ∧ 0 ≤ x2 ∧ x2 < ln w x0) ∧
      (x1 = 0 ∨ zst (tg w x0) (tg w x1) = true) ∧
      ∀ u4 : CW, u4 = qR w x0 x2 x1 →
      ∀ x2_7 : Int, x2_7 = w32 (x2 + 1) →
      I5 x2_7 u4)) → I5 x2 w) → I5 x2 w
def pC_J8_fill_0 (p : Nat) (call : Nat → List ZA → CW → (ZRes → CW → Prop) → Prop) (Q : CW → Prop) (x0 : Nat) (x1 : Nat) (w : CW) : Prop :=
  (101 ≤ tg w x0 ∧ tg w x0 ≤ 119 ∧ (tg w x0 < 107 ∨ 111 ≤ tg w x0)) ∧
  ∀ x3_2 : Int, x3_2 = ((ln w x0 : Nat) : Int) →
  pC_J8_fill_5 p call Q x0 x1 0 x3_2 w
/-! jdk/internal/util/Preconditions.checkIndex(IILjava/util/function/BiFunction;)I -/
def pC_J9_checkIndex_9 (p : Nat) (call : Nat → List ZA → CW → (ZRes → CW → Prop) → Prop) (Q : Int → CW → Prop) (x0 : Int) (x1 : Int) (x2 : Nat) (w : CW) : Prop :=
  False
def pC_J9_checkIndex_0 (p : Nat) (call : Nat → List ZA → CW → (ZRes → CW → Prop) → Prop) (Q : Int → CW → Prop) (x0 : Int) (x1 : Int) (x2 : Nat) (w : CW) : Prop :=
  ((x0 < 0) ∨ (¬ (x0 < x1)) →
    pC_J9_checkIndex_9 p call Q x0 x1 x2 w) ∧
  (¬ ((x0 < 0) ∨ (¬ (x0 < x1))) →
    Q x0 w)
/-! java/lang/StringLatin1.canEncode(C)Z -/
def pC_J10_canEncode_0 (p : Nat) (call : Nat → List ZA → CW → (ZRes → CW → Prop) → Prop) (Q : Int → CW → Prop) (x0 : Int) (w : CW) : Prop :=
  ∀ v1 : Int, v1 = (if ¬ (255 < x0) then 1 else 0) →
  Q v1 w
/-! java/lang/StringLatin1.indexOf([B[B)I -/
def pC_J10_indexOf_0 (p : Nat) (call : Nat → List ZA → CW → (ZRes → CW → Prop) → Prop) (Q : Int → CW → Prop) (x0 : Nat) (x1 : Nat) (w : CW) : Prop :=
  (101 ≤ tg w x1 ∧ tg w x1 ≤ 119 ∧ (tg w x1 < 107 ∨ 111 ≤ tg w x1)) ∧
  (((ln w x1 : Nat) : Int) = 0 →
    Q 0 w) ∧
  (¬ (((ln w x1 : Nat) : Int) = 0) →
    (101 ≤ tg w x0 ∧ tg w x0 ≤ 119 ∧ (tg w x0 < 107 ∨ 111 ≤ tg w x0)) ∧
    (((ln w x0 : Nat) : Int) = 0 →
      Q (-1) w) ∧
    (¬ (((ln w x0 : Nat) : Int) = 0) →
      (101 ≤ tg w x0 ∧ tg w x0 ≤ 119 ∧ (tg w x0 < 107 ∨ 111 ≤ tg w x0)) ∧
      (101 ≤ tg w x1 ∧ tg w x1 ≤ 119 ∧ (tg w x1 < 107 ∨ 111 ≤ tg w x1)) ∧
      call 241 [ar x0, ai ((ln w x0 : Nat) : Int), ar x1, ai ((ln w x1 : Nat) : Int), ai 0] w (zqI (fun v8 u7 =>
        Q v8 u7) zno)))
/-! java/lang/StringLatin1.indexOf([BI[BII)I -/
def pC_J10_indexOf_2_119 (p : Nat) (call : Nat → List ZA → CW → (ZRes → CW → Prop) → Prop) (Q : Int → CW → Prop) (w : CW) : Prop :=
  Q (-1) w
def pC_J10_indexOf_2_113 (p : Nat) (call : Nat → List ZA → CW → (ZRes → CW → Prop) → Prop) (Q : Int → CW → Prop) (I14 : Int → CW → Prop) (x0 : Nat) (x2 : Nat) (x3 : Int) (x5 : Int) (x6 : Int) (x7 : Int) (w : CW) : Prop :=
  ∀ x7_8 : Int, x7_8 = w32 (x7 + 1) →
  I14 x7_8 w
def pC_J10_indexOf_2_110 (p : Nat) (call : Nat → List ZA → CW → (ZRes → CW → Prop) → Prop) (Q : Int → CW → Prop) (x7 : Int) (w : CW) : Prop :=
  Q x7 w
def pC_J10_indexOf_2_103 (p : Nat) (call : Nat → List ZA → CW → (ZRes → CW → Prop) → Prop) (Q : Int → CW → Prop) (I14 : Int → CW → Prop) (x0 : Nat) (x2 : Nat) (x3 : Int) (x5 : Int) (x6 : Int) (x7 : Int) (x8 : Int) (x9 : Int) (w : CW) : Prop :=
  (x8 = x9 →
    pC_J10_indexOf_2_110 p call Q x7 w) ∧
  (¬ (x8 = x9) →
    pC_J10_indexOf_2_113 p call Q I14 x0 x2 x3 x5 x6 x7 w)
def pC_J10_indexOf_2_76 (p : Nat) (call : Nat → List ZA → CW → (ZRes → CW → Prop) → Prop) (Q : Int → CW → Prop) (I14 : Int → CW → Prop) (x0 : Nat) (x2 : Nat) (x3 : Int) (x5 : Int) (x6 : Int) (x7 : Int) (x8 : Int) (x9 : Int) (x10 : Int) (w : CW) : Prop :=
  ∀ I76 : Int → Int → CW → Prop, (∀ (x8 : Int) (x10 : Int) (w : CW), (
    ((¬ (x9 ≤ x8) → ((tg w x0 = 101 ∨ tg w x0 = 104 ∨ tg w x0 = 106) ∧ 0 ≤ x8 ∧ x8 < ln w x0) ∧ ((tg w x2 = 101 ∨ tg w x2 = 104 ∨ tg w x2 = 106) ∧ 0 ≤ x10 ∧ x10 < ln w x2))) ∧
    (¬ (x9 ≤ x8) ∧ ((aN w x0 x8) = (aN w x2 x10)) →
      ∀ x8_12 : Int, x8_12 = w32 (x8 + 1) →
      ∀ x10_13 : Int, x10_13 = w32 (x10 + 1) →
      I76 x8_12 x10_13 w) ∧
    (¬ (¬ (x9 ≤ x8) ∧ ((aN w x0 x8) = (aN w x2 x10))) →
      pC_J10_indexOf_2_103 p call Q I14 x0 x2 x3 x5 x6 x7 x8 x9 w)) → I76 x8 x10 w) → I76 x8 x10 w
def pC_J10_indexOf_2_52 (p : Nat) (call : Nat → List ZA → CW → (ZRes → CW → Prop) → Prop) (Q : Int → CW → Prop) (I14 : Int → CW → Prop) (x0 : Nat) (x2 : Nat) (x3 : Int) (x5 : Int) (x6 : Int) (x7 : Int) (w : CW) : Prop :=
  (x6 < x7 →
    pC_J10_indexOf_2_113 p call Q I14 x0 x2 x3 x5 x6 x7 w) ∧
  (¬ (x6 < x7) →
    ∀ x8_9 : Int, x8_9 = w32 (x7 + 1) →
    ∀ x9_10 : Int, x9_10 = w32 ((w32 (x8_9 + x3)) - 1) →
    pC_J10_indexOf_2_76 p call Q I14 x0 x2 x3 x5 x6 x7 x8_9 x9_10 1 w)
def pC_J10_indexOf_2_30 (p : Nat) (call : Nat → List ZA → CW → (ZRes → CW → Prop) → Prop) (Q : Int → CW → Prop) (I14 : Int → CW → Prop) (x0 : Nat) (x2 : Nat) (x3 : Int) (x5 : Int) (x6 : Int) (x7 : Int) (w : CW) : Prop :=
  ∀ I30 : Int → CW → Prop, (∀ (x7 : Int) (w : CW), (
    ∀ x7_20 : Int, x7_20 = w32 (x7 + 1) →
    ((¬ (x6 < x7_20) → ((tg w x0 = 101 ∨ tg w x0 = 104 ∨ tg w x0 = 106) ∧ 0 ≤ x7_20 ∧ x7_20 < ln w x0))) ∧
    (¬ (x6 < x7_20) ∧ (¬ ((aN w x0 x7_20) = x5)) →
      I30 x7_20 w) ∧
    (¬ (¬ (x6 < x7_20) ∧ (¬ ((aN w x0 x7_20) = x5))) →
      pC_J10_indexOf_2_52 p call Q I14 x0 x2 x3 x5 x6 x7_20 w)) → I30 x7 w) → I30 x7 w
def pC_J10_indexOf_2_14 (p : Nat) (call : Nat → List ZA → CW → (ZRes → CW → Prop) → Prop) (Q : Int → CW → Prop) (x0 : Nat) (x2 : Nat) (x3 : Int) (x5 : Int) (x6 : Int) (x7 : Int) (w : CW) : Prop :=
  ∀ I14 : Int → CW → Prop, (∀ (x7 : Int) (w : CW), (
    (x6 < x7 →
      pC_J10_indexOf_2_119 p call Q w) ∧
    (¬ (x6 < x7) →
      ((tg w x0 = 101 ∨ tg w x0 = 104 ∨ tg w x0 = 106) ∧ 0 ≤ x7 ∧ x7 < ln w x0) ∧
      ((aN w x0 x7) = x5 →
        pC_J10_indexOf_2_52 p call Q I14 x0 x2 x3 x5 x6 x7 w) ∧
      (¬ ((aN w x0 x7) = x5) →
        pC_J10_indexOf_2_30 p call Q I14 x0 x2 x3 x5 x6 x7 w))) → I14 x7 w) → I14 x7 w
def pC_J10_indexOf_2_0 (p : Nat) (call : Nat → List ZA → CW → (ZRes → CW → Prop) → Prop) (Q : Int → CW → Prop) (x0 : Nat) (x1 : Int) (x2 : Nat) (x3 : Int) (x4 : Int) (w : CW) : Prop :=
  ((tg w x2 = 101 ∨ tg w x2 = 104 ∨ tg w x2 = 106) ∧ 0 ≤ (0 : Int) ∧ (0 : Int) < ln w x2) ∧
  ∀ x5_2 : Int, x5_2 = aN w x2 0 →
  ∀ x6_3 : Int, x6_3 = w32 (x1 - x3) →
  pC_J10_indexOf_2_14 p call Q x0 x2 x3 x5_2 x6_3 x4 w
/-! java/lang/StringLatin1.indexOf([BIII)I -/
def pC_J10_indexOf_3_0 (p : Nat) (call : Nat → List ZA → CW → (ZRes → CW → Prop) → Prop) (Q : Int → CW → Prop) (x0 : Nat) (x1 : Int) (x2 : Int) (x3 : Int) (w : CW) : Prop :=
  call 243 [ai x1] w (zqI (fun v2 u1 =>
    (v2 = 0 →
      Q (-1) u1) ∧
    (¬ (v2 = 0) →
      ∀ x2_4 : Int, x2_4 = (if x2 < 0 then 0 else x2) →
      (101 ≤ tg u1 x0 ∧ tg u1 x0 ≤ 119 ∧ (tg u1 x0 < 107 ∨ 111 ≤ tg u1 x0)) ∧
      ∀ x3_6 : Int, x3_6 = (if ((ln u1 x0 : Nat) : Int) < x3 then ((ln u1 x0 : Nat) : Int) else x3) →
      (x2_4 < x3_6 →
        call 244 [ar x0, ai x1, ai x2_4, ai x3_6] u1 (zqI (fun v9 u8 =>
          Q v9 u8) zno)) ∧
      (¬ (x2_4 < x3_6) →
        Q (-1) u1))) zno)
/-! java/lang/StringLatin1.canEncode(I)Z -/
def pC_J10_canEncode_2_0 (p : Nat) (call : Nat → List ZA → CW → (ZRes → CW → Prop) → Prop) (Q : Int → CW → Prop) (x0 : Int) (w : CW) : Prop :=
  ∀ v1 : Int, v1 = (if ¬ (x0 < 0) ∧ (¬ (255 < x0)) then 1 else 0) →
  Q v1 w
/-! java/lang/StringLatin1.indexOfChar([BIII)I -/
def pC_J10_indexOfChar_31 (p : Nat) (call : Nat → List ZA → CW → (ZRes → CW → Prop) → Prop) (Q : Int → CW → Prop) (w : CW) : Prop :=
  Q (-1) w
def pC_J10_indexOfChar_22 (p : Nat) (call : Nat → List ZA → CW → (ZRes → CW → Prop) → Prop) (Q : Int → CW → Prop) (x5 : Int) (w : CW) : Prop :=
  Q x5 w
def pC_J10_indexOfChar_7 (p : Nat) (call : Nat → List ZA → CW → (ZRes → CW → Prop) → Prop) (Q : Int → CW → Prop) (x0 : Nat) (x3 : Int) (x4 : Int) (x5 : Int) (w : CW) : Prop :=
  ∀ I7 : Int → CW → Prop, (∀ (x5 : Int) (w : CW), (
    (x3 ≤ x5 →
      pC_J10_indexOfChar_31 p call Q w) ∧
    (¬ (x3 ≤ x5) →
      ((tg w x0 = 101 ∨ tg w x0 = 104 ∨ tg w x0 = 106) ∧ 0 ≤ x5 ∧ x5 < ln w x0) ∧
      ((aN w x0 x5) = x4 →
        pC_J10_indexOfChar_22 p call Q x5 w) ∧
      (¬ ((aN w x0 x5) = x4) →
        ∀ x5_5 : Int, x5_5 = w32 (x5 + 1) →
        I7 x5_5 w))) → I7 x5 w) → I7 x5 w
def pC_J10_indexOfChar_0 (p : Nat) (call : Nat → List ZA → CW → (ZRes → CW → Prop) → Prop) (Q : Int → CW → Prop) (x0 : Nat) (x1 : Int) (x2 : Int) (x3 : Int) (w : CW) : Prop :=
  ∀ x4_1 : Int, x4_1 = i_b x1 →
  pC_J10_indexOfChar_7 p call Q x0 x3 x4_1 x2 w
/-! java/lang/StringLatin1.charAt([BI)C -/
def pC_J10_charAt_0 (p : Nat) (call : Nat → List ZA → CW → (ZRes → CW → Prop) → Prop) (Q : Int → CW → Prop) (x0 : Nat) (x1 : Int) (w : CW) : Prop :=
  (101 ≤ tg w x0 ∧ tg w x0 ≤ 119 ∧ (tg w x0 < 107 ∨ 111 ≤ tg w x0)) ∧
  call 224 [ai x1, ai ((ln w x0 : Nat) : Int)] w (zqV (fun u2 =>
    ((tg u2 x0 = 101 ∨ tg u2 x0 = 104 ∨ tg u2 x0 = 106) ∧ 0 ≤ x1 ∧ x1 < ln u2 x0) ∧
    (0 ≤ (i_c (i_and (aN u2 x0 x1) 255)) ∧ (i_c (i_and (aN u2 x0 x1) 255)) ≤ 65535) ∧
    Q (i_c (i_and (aN u2 x0 x1) 255)) u2) zno)
end ZPC
