/-! ranges of both -/
section ZRange
variable {p d e : Nat} {w : CW} {τ : TW}
/-- a new object, below nothing else -/
theorem RB.new (h : RB p w τ) {w' : CW} {A B : Nat} (hF : Fr [] w w') (hW : WF p w') (hz : cz w' = cz w + A) (hu : cu w' = cu w + B) : RB p w' τ ∧ pot w' τ = pot w τ + (B + 5 * A : Nat) ∧ ∀ T S S', CF p T S S' w τ w' τ := by
  have hpz := h.1.pz
  refine ⟨h.st (T := []) (S := []) (hF.mono (fun r hr => by cases hr)) (PF.of hF hpz (by simp)) hW (fun f hf => by cases hf) (fun r hr => by cases hr), ?_, fun T S S' => ⟨hF.mono (fun r hr => by cases hr), PF.of hF hpz (by simp), hW, FT.refl _ _, Int.le_refl _, rfl⟩⟩
  unfold pot zm
  rw [hz, hu]
  omega
theorem mkRange (h : RB p w τ) (lo hi : Int) (hR : Rm 100 w τ) : ∃ w', (RB p w' τ ∧ pot w' τ = pot w τ + 8 ∧ (∀ T S S', CF p T S S' w τ w' τ) ∧ cz w' = cz w + 1 ∧ tg w' (cz w + 1) = 7 ∧ fI w' 68 (cz w + 1) = -1 ∧ fI w' 69 (cz w + 1) = lo ∧ fI w' 70 (cz w + 1) = hi) ∧ ∀ (Q : Nat → CW → Prop) (X : Nat → CW → Prop), Q (cz w + 1) w' → pC_X0_range_46 p (wpC p (d + 14)) Q X lo hi w := by
  have hr := Rm.room h hR (k := 1) (n := 3) (by decide)
  have h1 : cz w < cz w + 1 := Nat.lt_succ_self _
  obtain ⟨w', hw'⟩ : ∃ w', w' = pI (pI (pI (nO w 7 3) 68 (cz w + 1) (-1)) 69 (cz w + 1) lo) 70 (cz w + 1) hi := ⟨_, rfl⟩
  have t1 : tg (nO w 7 3) (cz w + 1) = 7 := by rw [tg_nO]; exact if_pos rfl
  have hF : Fr [] w w' := by rw [hw']; exact ((((Fr.refl _ w).snO).spI (Or.inr h1)).spI (Or.inr h1)).spI (Or.inr h1)
  obtain ⟨a, b, c⟩ := h.new (A := 1) (B := 3) hF (by rw [hw']; exact h.1.snO 7 3) (by rw [hw']; rfl) (by rw [hw']; rfl)
  refine ⟨w', ⟨a, b, c, by rw [hw']; rfl, by rw [hw']; exact t1, ?_, ?_, by rw [hw']; exact fI_at _ _ _ _⟩, fun Q X hQ => ⟨hr, fa (sC_iRange (by omega) t1 ?_)⟩⟩
  · rw [hw']; exact (fI_of (f := 70) (g := 68) _ _ _ _ (by decide)).trans ((fI_of (f := 69) (g := 68) _ _ _ _ (by decide)).trans (fI_at _ _ _ _))
  · rw [hw']; exact (fI_of (f := 70) (g := 69) _ _ _ _ (by decide)).trans (fI_at _ _ _ _)
  · rw [hw'] at hQ; exact hQ
theorem dd_number {h pl : Int} (D : Dd h pl τ) : ∃ τ' b, (FT [7, 8] τ τ' ∧ Dd h pl τ' ∧ tI τ' 7 ≠ 0) ∧ ∀ Q : Int → TW → Prop, Q b τ' → wpT (e + 6) 31 [] τ (zqI Q zno) := by
  by_cases hf : tI τ 7 = 0
  · have h7 : tI τ 3 = 7 := by
      rcases D with ⟨a, b, c⟩ | ⟨a, b, c, q, -⟩
      · omega
      · exact b
    have h3 : ((tI τ 7) = 0) ∧ (¬ ((tI τ 3) = 3)) := ⟨hf, by have : tI τ 3 = 7 := h7; omega⟩
    obtain ⟨τ1, ⟨a1, b1, d1⟩, r1⟩ := dd_stop (d := e + 3) (k := 2) D (by decide)
    exact ⟨τ1, sgv 0 (w32 (tI τ1 4)), ⟨a1, b1, d1⟩, fun Q hQ => wT_number (Nat.zero_le _) (dd_takes D _ ⟨fun _ => r1 _ (fa ⟨fun y => absurd y d1, fun _ => fa hQ⟩), fun y => absurd h3 y⟩)⟩
  · exact ⟨τ, sgv 0 (w32 (tI τ 4)), ⟨FT.refl _ _, D, hf⟩, fun Q hQ => wT_number (Nat.zero_le _) (dd_takes D _ ⟨fun y => absurd y.1 hf, fun _ => fa ⟨fun y => absurd y hf, fun _ => fa hQ⟩⟩)⟩
def RgE (τ σ : TW) (q : Nat) : Prop := ∀ x : Nat, x ≠ q → tA σ 19 x = tA τ 19 x ∧ tA σ 20 x = tA τ 20 x
theorem RgE.ft {S : List Nat} {σ σ' : TW} {q : Nat} (h : RgE τ σ q) (F : FT S σ σ') (h19 : 19 ∉ S) (h20 : 20 ∉ S) : RgE τ σ' q := fun x hx => ⟨by rw [(F 19 h19).2]; exact (h x hx).1, by rw [(F 20 h20).2]; exact (h x hx).2⟩
theorem RgE.sa {σ : TW} {q : Nat} (h : RgE τ σ q) (f : Nat) (v : Int) : RgE τ (sA σ f q v) q := fun x hx => ⟨by rw [tA_sA, if_neg (by omega)]; exact (h x hx).1, by rw [tA_sA, if_neg (by omega)]; exact (h x hx).2⟩
theorem pr_range {S S' T : List Nat} {q : Nat} {first : Int} (h : RB p w τ) (hq : q < 1700) (hS : ∀ f, f ∈ [9, 10, 11, 12, 13, 14] → f ∈ S) (hS' : ∀ f, f ∈ [2, 3, 4, 5, 6, 7, 8, 19, 20] → f ∈ S') (hR : Rm 500 w τ) :
    OUT p T S S' (-5700) 60 (fun (r : Nat) (_ : Unit) w' τ' => (cz w < r ∧ tg w' r = 7 ∧ fI w' 68 r = -1 ∧ fI w' 69 r = tA τ' 19 q ∧ fI w' 70 r = tA τ' 20 q ∧ -999999999 ≤ tA τ' 19 q ∧ tA τ' 19 q ≤ tA τ' 20 q ∧ tA τ' 20 q ≤ 999999999) ∧ ∀ x : Nat, x ≠ q → tA τ' 19 x = tA τ 19 x ∧ tA τ' 20 x = tA τ 20 x) (fun Q X => wpC p (d + 15) 26 [ar p, ai first] w (zqR Q X)) (fun (Q : Unit → TW → Prop) => ∀ P : TW → Prop, (∀ u, Q () u → RgE τ u q → P u) → wpT (e + 7) 30 [ai q, ai first] τ (zqV P zno)) w τ := by
  obtain ⟨w1, σ1, b1, c1, run1, g⟩ := pr_whole (d := d) (e := e) (T := T) (S := S) (S' := [2, 3, 4, 5, 6, 7, 8]) h hS (fun f hf => hf) (by unfold Rm at *; omega)
  have hql : (0 : Int) ≤ q ∧ (q : Int) < 1700 := by omega
  -- the reference's rows behind the first number
  obtain ⟨σ2, hσ2⟩ : ∃ σ2, σ2 = sA (sA σ1 19 q b1) 20 q b1 := ⟨_, rfl⟩
  have F2 : FT [19, 20] σ1 σ2 := by rw [hσ2]; exact ((FT.refl _ σ1).ssA (by simp)).ssA (by simp)
  have eA : ∀ x : Nat, tA σ2 19 x = if x = q then b1 else tA τ 19 x := by
    intro x
    rw [hσ2, tA_sA, if_neg (by omega), tA_sA]
    by_cases z : x = q
    · rw [if_pos ⟨rfl, by omega⟩, if_pos z]
    · rw [if_neg (by omega), if_neg z]; exact (c1.2.2.2.1 19 (by decide)).2 _
  have eB : ∀ x : Nat, tA σ2 20 x = if x = q then b1 else tA τ 20 x := by
    intro x
    rw [hσ2, tA_sA]
    by_cases z : x = q
    · rw [if_pos ⟨rfl, by omega⟩, if_pos z]
    · rw [if_neg (by omega), if_neg z, tA_sA, if_neg (by omega)]; exact (c1.2.2.2.1 20 (by decide)).2 _
  have E2 : RgE τ σ2 q := fun x hx => ⟨(eA x).trans (if_neg hx), (eB x).trans (if_neg hx)⟩
  have c1' : CF p T S S' w τ w1 σ2 := ⟨c1.1, c1.2.1, c1.2.2.1, (c1.2.2.2.1.mono (fun f hf => hS' f (by simp at hf ⊢; omega))).trans (F2.mono (fun f hf => hS' f (by simp at hf ⊢; omega))), by rw [(F2 5 (by decide)).1]; exact c1.2.2.2.2.1, by rw [(F2 1 (by decide)).1]; exact c1.2.2.2.2.2⟩
  have hp2 : pot w1 σ2 = pot w1 σ1 := by unfold pot; rw [(F2 5 (by decide)).1, (F2 1 (by decide)).1]
  have tm : ∀ Q : TW → Prop, ((((tI σ2 7) = 0) ∧ (¬ ((ff_isSign 256 σ2) = 0)) →
      wpT (e + 6) 4 [] σ2 (zqV (fun u12 =>
        wpT (e + 6) 31 [] u12 (zqI (fun v14 u13 =>
          (0 ≤ (q : Int) ∧ (q : Int) < 1700) ∧
          ∀ u15 : TW, u15 = sA u13 20 q v14 →
          (0 ≤ (q : Int) ∧ (q : Int) < 1700) ∧
          (0 ≤ (q : Int) ∧ (q : Int) < 1700) ∧
          ((tA u15 19 q) ≤ (tA u15 20 q) →
            Q u15) ∧
          (¬ ((tA u15 19 q) ≤ (tA u15 20 q)) →
            wpT (e + 6) 13 [ai 7, ai first] u15 (zqV (fun u20 => Q u20) zno))) zno)) zno)) ∧
    (¬ (((tI σ2 7) = 0) ∧ (¬ ((ff_isSign 256 σ2) = 0))) → Q σ2)) → wpT (e + 7) 30 [ai q, ai first] τ (zqV Q zno) := by
    intro Q hh
    refine wT_range (by omega) (run1 _ ⟨hql, fa ⟨hql, hql, fa ?_⟩⟩)
    have e1 : sA (sA σ1 19 q b1) 20 q (tA (sA σ1 19 q b1) 19 q) = σ2 := by
      rw [hσ2, tA_sA, if_pos ⟨rfl, rfl⟩]
    rw [e1]
    exact hh
  rcases g with ⟨v, rb1, p1, ⟨hv, hv1, hv2⟩, k1⟩ | ⟨hh, pl, x, p1, wr1, dd1, k1⟩
  · subst hv
    have rb2 : RB p w1 σ2 := rb1.ft F2 (fun f hf => by simp at hf; omega)
    have hR2 : Rm 400 w1 σ2 := by
      unfold Rm at *
      rw [c1.1.emu, c1.1.emz, hp2]
      omega
    have cm : ∀ (Q : Nat → CW → Prop) (X : Nat → CW → Prop), wpC p (d + 14) 16 [ar p, ai 46] w1 (zqI (fun v4 u3 =>
      (v4 = 0 →
        pC_X0_range_46 p (wpC p (d + 14)) Q X v v u3) ∧
      (¬ (v4 = 0) →
        wpC p (d + 14) 4 [ar p] u3 (zqV (fun u10 =>
          wpC p (d + 14) 28 [ar p] u10 (zqI (fun v13 u12 =>
            ∀ v14 : Int, v14 = (if ¬ (v13 < v) then 1 else 0) →
            wpC p (d + 14) 10 [ar p, ai v14, ai 7, ai first] u12 (zqV (fun u15 =>
              wpC p (d + 14) 4 [ar p] u15 (zqV (fun u17 =>
                pC_X0_range_46 p (wpC p (d + 14)) Q X v v13 u17) (fun x19 u20 =>
                X x19 u20))) (fun x21 u22 =>
              X x21 u22))) (fun x25 u26 =>
            X x25 u26))) (fun x27 u28 =>
          X x27 u28)))) zno) → wpC p (d + 15) 26 [ar p, ai first] w (zqR Q X) := by
      intro Q X hh
      exact wC_X0_range (Nat.zero_le _) (k1 (fun v2 u1 => _) (fun x u => X x u) hh)
    have hdots := rb2.dots
    by_cases z : tI σ2 3 = 5 ∧ tI σ2 4 = 256
    · -- up to a second number
      have z1 : ff_isSign 256 σ2 = 1 := ff_s1 z
      have cz1 : fI w1 10 p = 5 ∧ fI w1 14 p = 46 := hdots.mpr z
      obtain ⟨w2, σ3, c20, p2, run2, g2⟩ := nx (d := d + 2) (e := e + 2) (T := T) (S := S) (S' := [2, 3, 4, 5, 6]) rb2 (by omega) hS (fun f hf => hf) (by unfold Rm at *; omega)
      have E3 : RgE τ σ3 q := E2.ft c20.2.2.2.1 (by decide) (by decide)
      have hf3 : tI σ3 7 = 0 := (c20.2.2.2.1 7 (by decide)).1.trans rb2.f0
      have c2 := c20.mono c1.2.2.1 (T := T) (S := S) (S' := S') (fun r hr => Or.inl hr) (fun f hf => hf) (fun f hf => hS' f (by simp at hf ⊢; omega))
      have c12 := c1'.trans c2 (fun r hr => Or.inl hr) (fun f hf => hf) (fun f hf => hf)
      -- behind the second number, dead
      have rtail : ∀ (σ : TW) (v14 : Int) (Q : TW → Prop), tI σ 7 ≠ 0 → Q (sA σ 20 q v14) → ((0 ≤ (q : Int) ∧ (q : Int) < 1700) ∧
          ∀ u15 : TW, u15 = sA σ 20 q v14 →
          (0 ≤ (q : Int) ∧ (q : Int) < 1700) ∧
          (0 ≤ (q : Int) ∧ (q : Int) < 1700) ∧
          ((tA u15 19 q) ≤ (tA u15 20 q) →
            Q u15) ∧
          (¬ ((tA u15 19 q) ≤ (tA u15 20 q)) →
            wpT (e + 6) 13 [ai 7, ai first] u15 (zqV (fun u20 => Q u20) zno))) := by
        intro σ v14 Q hne hQ
        obtain ⟨τ9, ⟨_, _, h9⟩, run9⟩ := sT_fails (d := e + 5) (τ := sA σ 20 q v14) (k := 7) (pl := first)
        refine ⟨hql, fa ⟨hql, hql, fun _ => hQ, fun _ => run9 _ ?_⟩⟩
        rw [h9 hne]
        exact hQ
      have tm2 : ∀ Q : TW → Prop, wpT (e + 6) 31 [] σ3 (zqI (fun v14 u13 =>
          (0 ≤ (q : Int) ∧ (q : Int) < 1700) ∧
          ∀ u15 : TW, u15 = sA u13 20 q v14 →
          (0 ≤ (q : Int) ∧ (q : Int) < 1700) ∧
          (0 ≤ (q : Int) ∧ (q : Int) < 1700) ∧
          ((tA u15 19 q) ≤ (tA u15 20 q) →
            Q u15) ∧
          (¬ ((tA u15 19 q) ≤ (tA u15 20 q)) →
            wpT (e + 6) 13 [ai 7, ai first] u15 (zqV (fun u20 => Q u20) zno))) zno) → wpT (e + 7) 30 [ai q, ai first] τ (zqV Q zno) := fun Q hh => tm Q ⟨fun _ => run2 _ hh, fun y => absurd ⟨rb2.f0, by omega⟩ y⟩
      have cm2 : ∀ (Q : Nat → CW → Prop) (X : Nat → CW → Prop), wpC p (d + 14) 4 [ar p] w1 (zqV (fun u10 =>
          wpC p (d + 14) 28 [ar p] u10 (zqI (fun v13 u12 =>
            ∀ v14 : Int, v14 = (if ¬ (v13 < v) then 1 else 0) →
            wpC p (d + 14) 10 [ar p, ai v14, ai 7, ai first] u12 (zqV (fun u15 =>
              wpC p (d + 14) 4 [ar p] u15 (zqV (fun u17 =>
                pC_X0_range_46 p (wpC p (d + 14)) Q X v v13 u17) (fun x19 u20 =>
                X x19 u20))) (fun x21 u22 =>
              X x21 u22))) (fun x25 u26 =>
            X x25 u26))) (fun x27 u28 =>
          X x27 u28)) → wpC p (d + 15) 26 [ar p, ai first] w (zqR Q X) := by
        intro Q X hh
        refine cm Q X (sC_isSign ?_)
        rw [if_pos cz1]
        exact ⟨fun y => absurd y (by decide), fun _ => hh⟩
      have F20 : ∀ (σ : TW) (v14 : Int), FT [20] σ (sA σ 20 q v14) := fun σ v14 => (FT.refl _ σ).ssA (by simp)
      have hS20 : ∀ f, f ∈ [20] → f ∈ S' := fun f hf => hS' f (by simp at hf ⊢; omega)
      have cfT : ∀ {w9 : CW} {σ : TW} (v14 : Int), CF p T S S' w τ w9 σ → CF p T S S' w τ w9 (sA σ 20 q v14) := fun v14 c => ⟨c.1, c.2.1, c.2.2.1, c.2.2.2.1.trans ((F20 _ v14).mono hS20), c.2.2.2.2.1, c.2.2.2.2.2⟩
      have hA3 : tA σ3 19 q = v := ((c20.2.2.2.1 19 (by decide)).2 _).trans (by rw [eA, if_pos rfl])
      rcases g2 with ⟨rb3, k2⟩ | ⟨hh, pl, x, wr2, dd2, k2⟩
      · obtain ⟨w3, σ4, c30, g3⟩ := pr_signed (d := d + 1) (e := e) (T := T) (S := S) (S' := [2, 3, 4, 5, 6, 7, 8]) rb3 hS (fun f hf => hf) (by
          unfold Rm at *
          rw [c20.1.emu, c20.1.emz]
          omega)
        have c3 := c30.mono c20.2.2.1 (T := T) (S := S) (S' := S') (fun r hr => Or.inl hr) (fun f hf => hf) (fun f hf => hS' f (by simp at hf ⊢; omega))
        have c13 := c12.trans c3 (fun r hr => Or.inl hr) (fun f hf => hf) (fun f hf => hf)
        have E4 : RgE τ σ4 q := E3.ft c30.2.2.2.1 (by decide) (by decide)
        have hA4 : tA σ4 19 q = v := ((c30.2.2.2.1 19 (by decide)).2 _).trans hA3
        rcases g3 with ⟨rb4, p4, h3, mi, k3, t3⟩ | ⟨hh, pl, x, b, p4, wr, dd, hne, k3, t3⟩
        · have hnm := (rb4.nm h3).2
          have e1 : w32 (tI σ4 4) = tI σ4 4 := w32_s (by have : tI σ4 4 = tI σ4 4 := rfl; omega) (by have : tI σ4 4 = tI σ4 4 := rfl; omega)
          have hsg : -999999999 ≤ sgv mi (tI σ4 4) ∧ sgv mi (tI σ4 4) ≤ 999999999 := by
            unfold sgv
            split
            · rw [w32_s (by omega) (by omega)]; omega
            · omega
          have hR4 : Rm 300 w3 σ4 := by
            unfold Rm at *
            rw [c30.1.emu, c30.1.emz, c20.1.emu, c20.1.emz]
            omega
          obtain ⟨w5, σ5, c50, p5, run5, g5⟩ := nx (d := d + 2) (e := e + 1) (T := T) (S := S) (S' := [2, 3, 4, 5, 6]) rb4 (by omega) hS (fun f hf => hf) (by unfold Rm at *; omega)
          have c5 := c50.mono c30.2.2.1 (T := T) (S := S) (S' := S') (fun r hr => Or.inl hr) (fun f hf => hf) (fun f hf => hS' f (by simp at hf ⊢; omega))
          have hf5 : tI σ5 7 = 0 := (c50.2.2.2.1 7 (by decide)).1.trans rb4.f0
          have hA5 : tA σ5 19 q = v := ((c50.2.2.2.1 19 (by decide)).2 _).trans hA4
          obtain ⟨σ6, hσ6⟩ : ∃ σ6, σ6 = sA σ5 20 q (sgv mi (tI σ4 4)) := ⟨_, rfl⟩
          have F6 : FT [20] σ5 σ6 := by rw [hσ6]; exact F20 _ _
          have E6 : RgE τ σ6 q := by rw [hσ6]; exact (E4.ft c50.2.2.2.1 (by decide) (by decide)).sa _ _
          have hA6 : tA σ6 19 q = v := ((F6 19 (by decide)).2 _).trans hA5
          have hB6 : tA σ6 20 q = sgv mi (tI σ4 4) := by rw [hσ6, tA_sA, if_pos ⟨rfl, rfl⟩]
          have tm3 : ∀ Q : TW → Prop, (((tA σ6 19 q) ≤ (tA σ6 20 q) → Q σ6) ∧ (¬ ((tA σ6 19 q) ≤ (tA σ6 20 q)) → wpT (e + 6) 13 [ai 7, ai first] σ6 (zqV (fun u20 => Q u20) zno))) → wpT (e + 7) 30 [ai q, ai first] τ (zqV Q zno) := by
            intro Q hh
            refine tm2 Q (wT_number (Nat.zero_le _) (t3 _ (fa ⟨fun _ => run5 _ (fa ?_), fun y => absurd rb4.f0 y⟩)))
            rw [e1]
            have e2 : (if ¬ (mi = 0) then w32 (-(tI σ4 4)) else tI σ4 4) = sgv mi (tI σ4 4) := rfl
            rw [e2]
            refine ⟨hql, fa ⟨hql, hql, ?_⟩⟩
            rw [← hσ6]
            exact hh
          by_cases hlt : sgv mi (tI σ4 4) < v
          · -- it is below the first
            obtain ⟨τ7, ⟨a7, b7, _⟩, run7⟩ := sT_fails (d := e + 5) (τ := σ6) (k := 7) (pl := first)
            have hD7 := b7 ((F6 7 (by decide)).1.trans hf5) (by decide)
            have e57 : tI τ7 5 = tI σ5 5 := (a7 5 (by decide)).1.trans (F6 5 (by decide)).1
            have e17 : tI τ7 1 = tI σ5 1 := (a7 1 (by decide)).1.trans (F6 1 (by decide)).1
            refine ⟨wrW w3 7 first, τ7, (), ⟨c13.1.trans (wrW_fr _ _ _ _), c13.2.1.trans (wrW_st c13.2.2.1 [] S 7 first).2.1, (wrW_st c13.2.2.1 [] S 7 first).2.2.1, ((c13.2.2.2.1.trans c5.2.2.2.1).trans (F6.mono hS20)).trans (a7.mono (fun f hf => hS' f (by simp at hf ⊢; omega))), ?_, ?_⟩, fun Q hQ P hP => tm3 P ⟨fun y => ?_, fun _ => run7 _ (hP _ hQ (E6.ft a7 (by decide) (by decide)))⟩, Or.inr ⟨7, first, cz w3 + 1, ?_, wrW_wr _ _ _, hD7, fun Q X hX => cm2 Q X (k2 _ (k3 _ (fa ?_)))⟩⟩
            · rw [e57]; exact Int.le_trans c13.2.2.2.2.1 c50.2.2.2.2.1
            · rw [e17, c50.2.2.2.2.2]; exact c13.2.2.2.2.2
            · rw [hA6, hB6] at y; omega
            · have q1 : cz (wrW w3 7 first) = cz w3 + 1 := rfl
              have q2 : cu (wrW w3 7 first) = cu w3 + 8 := rfl
              have q3 := c50.2.2.2.2.1
              have q4 := c50.2.2.2.2.2
              unfold pot zm at *
              rw [e57, e17, q1, q2]
              omega
            · rw [if_neg (fun y => y hlt)]
              exact sC_needNo rfl (Rm.room rb4 hR4 (k := 1) (n := 8) (by decide)) hX
          · -- a range
            have c15 := c13.trans c5 (fun r hr => Or.inl hr) (fun f hf => hf) (fun f hf => hf)
            have c16 : CF p T S S' w τ w5 σ6 := by rw [hσ6]; exact cfT _ c15
            have hp6 : pot w5 σ6 = pot w5 σ5 := by unfold pot; rw [(F6 5 (by decide)).1, (F6 1 (by decide)).1]
            have tm4 : ∀ Q : TW → Prop, Q σ6 → wpT (e + 7) 30 [ai q, ai first] τ (zqV Q zno) := fun Q hQ => tm3 Q ⟨fun _ => hQ, fun y => absurd (by rw [hA6, hB6]; omega) y⟩
            have cm4 : ∀ (Q : Nat → CW → Prop) (X : Nat → CW → Prop), wpC p (d + 14) 4 [ar p] w3 (zqV (fun u17 =>
                pC_X0_range_46 p (wpC p (d + 14)) Q X v (sgv mi (tI σ4 4)) u17) (fun x19 u20 =>
                X x19 u20)) → wpC p (d + 15) 26 [ar p, ai first] w (zqR Q X) := by
              intro Q X hh
              refine cm2 Q X (k2 _ (k3 _ (fa ?_)))
              rw [if_pos hlt]
              exact sC_needOk (by decide) hh
            rcases g5 with ⟨rb5, k5⟩ | ⟨hh, pl, x, wr5, dd5, k5⟩
            · have rb6 := rb5.ft F6 (fun f hf => by rw [List.mem_singleton.mp hf]; decide)
              obtain ⟨w6, ⟨m1, m2, m3, m4, m5, m6, m7, m8⟩, mk⟩ := mkRange (d := d) rb6 v (sgv mi (tI σ4 4)) (by
                unfold Rm at *
                rw [c50.1.emu, c50.1.emz, hp6]
                omega)
              refine ⟨w6, σ6, (), c16.trans (m3 [] [] []) (fun r hr => by cases hr) (fun f hf => by cases hf) (fun f hf => by cases hf), fun Q hQ P hP => tm4 _ (hP _ hQ E6), Or.inl ⟨cz w5 + 1, m1, by omega, ⟨⟨by have := c15.1.1; omega, m5, m6, by rw [m7]; exact hA6.symm, by rw [m8]; exact hB6.symm, by rw [show tA σ6 19 q = v from hA6]; exact hv1, by rw [show tA σ6 19 q = v from hA6, show tA σ6 20 q = _ from hB6]; omega, by rw [show tA σ6 20 q = _ from hB6]; exact hsg.2⟩, fun x hx => ⟨?_, ?_⟩⟩, fun Q X hQ => cm4 Q X (k5 _ (mk Q X hQ))⟩⟩
              · rw [(F6 19 (by decide)).2, (c50.2.2.2.1 19 (by decide)).2, (c30.2.2.2.1 19 (by decide)).2, (c20.2.2.2.1 19 (by decide)).2, eA, if_neg hx]
              · rw [hσ6, tA_sA, if_neg (by omega), (c50.2.2.2.1 20 (by decide)).2, (c30.2.2.2.1 20 (by decide)).2, (c20.2.2.2.1 20 (by decide)).2, eB, if_neg hx]
            · exact ⟨w5, σ6, (), c16, fun Q hQ P hP => tm4 _ (hP _ hQ E6), Or.inr ⟨hh, pl, x, by omega, wr5, dd5.ft F6 (fun f hf => by rw [List.mem_singleton.mp hf]; decide), fun Q X hX => cm4 Q X (k5 _ hX)⟩⟩
        · have hp4 : pot w3 (sA σ4 20 q b) = pot w3 σ4 := rfl
          exact ⟨w3, sA σ4 20 q b, (), cfT _ c13, fun Q hQ P hP => tm2 _ (wT_number (Nat.zero_le _) (t3 _ (rtail σ4 b _ hne (hP _ hQ (E4.sa _ _))))), Or.inr ⟨hh, pl, x, by omega, wr, dd.ft (F20 _ _) (fun f hf => by rw [List.mem_singleton.mp hf]; decide), fun Q X hX => cm2 Q X (k2 _ (k3 _ hX))⟩⟩
      · obtain ⟨σ4, b4, ⟨a4, d4, n4⟩, run4⟩ := dd_number (e := e) dd2
        have c14 : CF p T S S' w τ w2 σ4 := ⟨c12.1, c12.2.1, c12.2.2.1, c12.2.2.2.1.trans (a4.mono (fun f hf => hS' f (by simp at hf ⊢; omega))), by rw [(a4 5 (by decide)).1]; exact c12.2.2.2.2.1, by rw [(a4 1 (by decide)).1]; exact c12.2.2.2.2.2⟩
        have hp4 : pot w2 (sA σ4 20 q b4) = pot w2 σ3 := by
          show pot w2 σ4 = _
          unfold pot; rw [(a4 5 (by decide)).1, (a4 1 (by decide)).1]
        exact ⟨w2, sA σ4 20 q b4, (), cfT _ c14, fun Q hQ P hP => tm2 _ (run4 _ (rtail σ4 b4 _ n4 (hP _ hQ ((E3.ft a4 (by decide) (by decide)).sa _ _)))), Or.inr ⟨hh, pl, x, by omega, wr2, d4.ft (F20 _ _) (fun f hf => by rw [List.mem_singleton.mp hf]; decide), fun Q X hX => cm2 Q X (k2 _ hX)⟩⟩
    · -- one number
      have z0 : ff_isSign 256 σ2 = 0 := ff_s0 z
      have cz0 : ¬ (fI w1 10 p = 5 ∧ fI w1 14 p = 46) := fun y => z (hdots.mp y)
      obtain ⟨w2, ⟨m1, m2, m3, m4, m5, m6, m7, m8⟩, mk⟩ := mkRange (d := d) rb2 v v (by unfold Rm at *; omega)
      refine ⟨w2, σ2, (), c1'.trans (m3 [] [] []) (fun r hr => by cases hr) (fun f hf => by cases hf) (fun f hf => by cases hf), fun Q hQ P hP => tm _ ⟨fun y => absurd z0 y.2, fun _ => hP _ hQ E2⟩, Or.inl ⟨cz w1 + 1, m1, by omega, ⟨⟨by have := c1.1.1; omega, m5, m6, ?_, ?_, ?_, ?_, ?_⟩, fun x hx => ⟨by rw [eA, if_neg hx], by rw [eB, if_neg hx]⟩⟩, fun Q X hQ => cm Q X (sC_isSign ?_)⟩⟩
      · rw [m7, eA, if_pos rfl]
      · rw [m8, eB, if_pos rfl]
      · rw [eA, if_pos rfl]; exact hv1
      · rw [eA, eB, if_pos rfl, if_pos rfl]; exact Int.le_refl _
      · rw [eB, if_pos rfl]; exact hv2
      · rw [if_neg cz0]
        exact ⟨fun _ => mk Q X hQ, fun y => absurd rfl y⟩
  · -- the first number is wrong
    have dd2 := dd1.ft F2 (fun f hf => by simp at hf; omega)
    have hno : ¬ (((tI σ2 7) = 0) ∧ (¬ ((ff_isSign 256 σ2) = 0))) := by
      rintro ⟨y1, y2⟩
      apply y2
      apply ff_s0
      rintro ⟨y3, -⟩
      rcases dd2 with ⟨a, b, c⟩ | ⟨a, b, c, q, -⟩
      · have : tI σ2 7 = hh := a
        omega
      · omega
    exact ⟨w1, σ2, (), c1', fun Q hQ P hP => tm _ ⟨fun y => absurd y hno, fun _ => hP _ hQ E2⟩, Or.inr ⟨hh, pl, x, by omega, wr1, dd2, fun Q X hX => wC_X0_range (Nat.zero_le _) (k1 (fun v2 u1 => _) (fun x u => X x u) hX)⟩⟩
end ZRange
