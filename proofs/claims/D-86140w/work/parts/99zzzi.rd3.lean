/-! read: from its begin to the end of the text, both -/
section ZRd3
variable {p b e d : Nat} {w : CW} {τ : TW}
/-- no text is read: both -/
def NT (p : Nat) (w : CW) (τ : TW) : Prop := (WF p w ∧ Lit p w ∧ tpT τ ∧ tpC p w τ) ∧ (fI w 22 p = 0 ∧ tI τ 9 = 0) ∧ (KA p w ∧ fI w 1 p = 0) ∧ (FA p w ∧ fI w 6 p = 0) ∧ NA p w
/-- what reading may touch -/
def TRD (p : Nat) (w : CW) : List Nat := fR w 0 p :: fR w 5 p :: fR w 15 p :: fR w 16 p :: (List.range (cz w + 1)).filter (fun r => decide (tg w r = 3))
theorem TRD.mem {r : Nat} (h1 : r ≤ cz w) (h2 : tg w r = 3) : r ∈ TRD p w := by
  unfold TRD
  refine List.mem_cons.mpr (Or.inr (List.mem_cons.mpr (Or.inr (List.mem_cons.mpr (Or.inr (List.mem_cons.mpr (Or.inr ?_)))))))
  exact List.mem_filter.mpr ⟨List.mem_range.mpr (by omega), by simp [h2]⟩
abbrev SRC2 : List Nat := [1, 6, 9, 10, 11, 12, 13, 14, 17, 18, 19, 20, 21]
abbrev SRT2 : List Nat := 11 :: SRT
theorem rd_text (h : NT p w τ) (hm : zm w + 6000 * tI τ 1 + 13000 ≤ mu w ∧ zm w + 6000 * tI τ 1 + 13000 ≤ 5 * mz w) :
    ∃ (w' : CW) (τ' : TW) (v : Bool), (Frb (cz w) (p :: TRD p w) w w' ∧ PF SRC2 p w w' ∧ WF p w' ∧ FT SRT2 τ τ' ∧ tI τ' 1 = tI τ 1 ∧ tI τ' 11 = 0 ∧ fI w' 21 p = 0) ∧ (∀ (Q : Bool → TW → Prop) (Qf : Int → TW → Prop), Q v τ' → rtE (e + 11) Q Qf → wpT (e + 12) 2 [] τ (zqI Qf zno)) ∧
      (((v = true ∧ tI τ' 3 = 0) ∧ FS p w' τ' ∧ FN p w' τ' ∧ pot w' τ' + 40000 * nF τ' ≤ zm w + 6000 * tI τ 1 + 100 ∧ ∀ (Q : Unit → CW → Prop) (X : Nat → CW → Prop) (Qf : Int → CW → Prop), Q () w' → rdE p (d + 41) Q X Qf → wpC p (d + 42) 2 [ar p] w (zqI Qf zno)) ∨
       ∃ hw pl x, zm w' ≤ zm w + 6000 * tI τ 1 + 2100 ∧ Wr w' x hw pl ∧ Dd hw pl τ' ∧ ∀ (Q : Unit → CW → Prop) (X : Nat → CW → Prop) (Qf : Int → CW → Prop), X x w' → rdE p (d + 41) Q X Qf → wpC p (d + 42) 2 [ar p] w (zqI Qf zno)) := by
  obtain ⟨⟨W, L, T0, R⟩, ⟨h22, h9⟩, ⟨hKA, h1⟩, ⟨hFA, h6⟩, hNA⟩ := h
  obtain ⟨w1, hw1⟩ : ∃ w1, w1 = pI (pI w 21 p 0) 9 p 0 := ⟨_, rfl⟩
  obtain ⟨τ1, hτ1⟩ : ∃ τ1, τ1 = sI (sI (sI (sI (sI (sI τ 10 0) 41 0) 16 0) 11 0) 7 0) 6 0 := ⟨_, rfl⟩
  have F1 : FT [6, 7, 10, 11, 16, 41] τ τ1 := by rw [hτ1]; exact ((((((FT.refl _ τ).ssI (by decide)).ssI (by decide)).ssI (by decide)).ssI (by decide)).ssI (by decide)).ssI (by decide)
  have g6 : tI τ1 6 = 0 ∧ tI τ1 7 = 0 ∧ tI τ1 10 = 0 ∧ tI τ1 11 = 0 ∧ tI τ1 16 = 0 ∧ tI τ1 41 = 0 := by rw [hτ1]; exact ⟨rfl, rfl, rfl, rfl, rfl, rfl⟩
  have W1 : WF p w1 := by rw [hw1]; exact (W.spI _ _ _).spI _ _ _
  have Fr1 : Fr (p :: []) w w1 := by rw [hw1]; exact ((Fr.refl _ w).spI (Or.inl (by simp))).spI (Or.inl (by simp))
  have P1 : PF [9, 21] p w w1 := by rw [hw1]; exact ((PF.refl _ p w).spI (Or.inl (by decide))).spI (Or.inl (by decide))
  have L1 : Lit p w1 := by rw [hw1]; exact L
  have T1 : tpT τ1 := by rw [hτ1]; exact T0
  have R1 : tpC p w1 τ1 := by
    rw [hw1, hτ1]
    exact (R.spI (by decide)).spI (by decide)
  have ez : cz w1 = cz w ∧ cu w1 = cu w := by rw [hw1]; exact ⟨rfl, rfl⟩
  have e9 : fI w1 9 p = 0 := by rw [hw1, fI_at]
  have t1 : tI τ1 1 = tI τ 1 := (F1 1 (by decide)).1
  have tp0 := T0.1
  have emz : mz w1 = mz w ∧ mu w1 = mu w := by rw [hw1]; exact ⟨rfl, rfl⟩
  have pz := W.pz
  have e21 : fI w1 21 p = 0 := by rw [hw1, fI_of _ _ _ _ (by decide), fI_at]
  have h45 : R45 τ1 := fun f hf => by rw [g6.2.2.2.2.2] at hf; omega
  obtain ⟨w2, τ2, ⟨st, F2, q1, q2⟩, runT, g⟩ := pr_nextL (d := d + 28) (e := e + 6) W1 L1 T1 R1 (e9.trans g6.1.symm) (Int.le_of_eq g6.1.symm) (by
    have y : tI τ1 6 = 0 := g6.1
    show tI τ1 6 ≤ tI τ1 1
    omega) (by unfold zm at hm; omega) g6.2.1 h45
  obtain ⟨Fr2, P2, W2, z2, u2⟩ := st
  have Fr12 := Fr1.trans Fr2
  have P12 : PF SRC2 p w w2 := (P1.mono (by decide)).trans (P2.mono (by decide))
  have F12 : FT SRT2 τ τ2 := (F1.mono (by decide)).trans (F2.mono (by decide))
  have t2 : tI τ2 1 = tI τ 1 := ((F2 1 (by decide)).1).trans t1
  have r5 : 0 ≤ tI τ2 5 := by
    have y1 : tI τ1 6 = 0 := g6.1
    have y2 : tI τ2 5 = tI τ2 5 := rfl
    omega
  have zm2 : zm w2 ≤ zm w + 95 := by unfold zm; omega
  have em2 : mz w2 = mz w ∧ mu w2 = mu w := ⟨Fr12.emz, Fr12.emu⟩
  have topC : ∀ (Q : Unit → CW → Prop) (X : Nat → CW → Prop) (Qf : Int → CW → Prop), wpC p (d + 40) 4 [ar p] w1 (zqV (fun u => pC_X0_read_19 p (wpC p (d + 41)) Qf u) (fun x u => RH p (d + 41) Qf x u)) → wpC p (d + 42) 2 [ar p] w (zqI Qf zno) := fun Q X Qf k => wC_X0_read (Nat.zero_le _) (bC_X0_read_0 (br1 h22 (fa (wC_X0_begin (d := d + 40) (Nat.zero_le _) (bC_X0_begin_0 (fa (by rw [hw1] at k; exact k)))))))
  have topT : ∀ (Qf : Int → TW → Prop), wpT (e + 10) 4 [] τ1 (zqV (fun u => pT_read_34 (wpT (e + 11)) Qf u) zno) → wpT (e + 12) 2 [] τ (zqI Qf zno) := fun Qf k => wT_read (by omega) (bT_read_0 (br1 h9 (fa (fa (fa (fa (wT_beginTape (d := e + 10) (Nat.zero_le _) (bT_beginTape_0 (fa (fa (by rw [hτ1] at k; exact k)))))))))))
  have frb : Frb (cz w) (p :: TRD p w) w w2 := ⟨Fr12.1, Fr12.2.1, Fr12.2.2.1, Fr12.2.2.2.1, fun r h1 h2 => Fr12.2.2.2.2 r h1 (fun y => h2 (by rcases List.mem_cons.mp y with z | z; exact List.mem_cons.mpr (Or.inl z); cases z))⟩
  rcases g with ⟨rb, runC⟩ | ⟨⟨g1, g2, g3⟩, x, wr, runC⟩
  · have tg' : ∀ r, tg w r ≠ 0 → tg w2 r = tg w r ∧ ln w2 r = ln w r := fun r hr => Fr12.2.2.2.1 r (W.le hr)
    have ks : KS p (cz w) w w2 τ2 := by
      obtain ⟨a1, a2, a3, a4, a5⟩ := hKA
      obtain ⟨f1, f2, f3, f4⟩ := hFA
      obtain ⟨⟨k1, k2, k3, k4⟩, k5, k6, k7, k8⟩ := hNA
      have x0 := tg' _ (show tg w (fR w 0 p) ≠ 0 by rw [show tg w (fR w 0 p) = 112 from a1]; decide)
      have x5 := tg' _ (show tg w (fR w 5 p) ≠ 0 by rw [f1]; decide)
      have x15 := tg' _ (show tg w (fR w 15 p) ≠ 0 by rw [show tg w (fR w 15 p) = 103 from k1]; decide)
      have x16 := tg' _ (show tg w (fR w 16 p) ≠ 0 by rw [show tg w (fR w 16 p) = 102 from k5]; decide)
      have p0 : fR w2 0 p = fR w 0 p := ((P2 0 (by decide)).2).trans (P1 0 (by decide)).2
      have p5 : fR w2 5 p = fR w 5 p := ((P2 5 (by decide)).2).trans (P1 5 (by decide)).2
      have p15 : fR w2 15 p = fR w 15 p := ((P2 15 (by decide)).2).trans (P1 15 (by decide)).2
      have p16 : fR w2 16 p = fR w 16 p := ((P2 16 (by decide)).2).trans (P1 16 (by decide)).2
      have i1 : fI w2 1 p = 0 := (((P2 1 (by decide)).1).trans (P1 1 (by decide)).1).trans h1
      have i6 : fI w2 6 p = 0 := (((P2 6 (by decide)).1).trans (P1 6 (by decide)).1).trans h6
      have e10 : tI τ2 10 = 0 := ((F2 10 (by decide)).1).trans g6.2.2.1
      have n0 : nK τ2 = 0 := by unfold nK; rw [show tI τ2 10 = 0 from e10]; rfl
      refine ⟨rb, ⟨?_, i1.trans e10.symm, Int.le_of_eq e10.symm, by rw [show tI τ2 10 = 0 from e10]; decide, fun k hk => by omega, fun j k _ hk => by omega, fun k hk => by omega, fun j k hj => by omega⟩, ?_, ((F2 16 (by decide)).1).trans g6.2.2.2.2.1, ⟨?_, i6, ((F2 41 (by decide)).1).trans g6.2.2.2.2.2⟩, Fr12.1, fun r hr => (Fr12.2.2.2.1 r hr).1⟩
      · unfold KA
        rw [p0]
        exact ⟨x0.1.trans a1, x0.2.trans a2, a3, a4, by have := Fr12.1; omega⟩
      · unfold NA
        rw [p15, p16]
        exact ⟨⟨x15.1.trans k1, x15.2.trans k2, k3, k4⟩, x16.1.trans k5, x16.2.trans k6, k7, k8⟩
      · unfold FA
        rw [p5]
        exact ⟨x5.1.trans f1, x5.2.trans f2, f3, f4⟩
    have hpot : pot w2 τ2 ≤ zm w + 6000 * tI τ 1 + 95 := by
      have y1 : tI τ2 5 = tI τ2 5 := rfl
      have y2 : tI τ2 1 = tI τ2 1 := rfl
      unfold pot
      omega
    have hR2 : Rm 12000 w2 τ2 := by
      unfold Rm
      rw [em2.1, em2.2]
      omega
    have m0 : fR w 0 p ∈ TRD p w := List.mem_cons.mpr (Or.inl rfl)
    have m5 : fR w 5 p ∈ TRD p w := List.mem_cons.mpr (Or.inr (List.mem_cons.mpr (Or.inl rfl)))
    have m15 : fR w 15 p ∈ TRD p w := List.mem_cons.mpr (Or.inr (List.mem_cons.mpr (Or.inr (List.mem_cons.mpr (Or.inl rfl)))))
    have m16 : fR w 16 p ∈ TRD p w := List.mem_cons.mpr (Or.inr (List.mem_cons.mpr (Or.inr (List.mem_cons.mpr (Or.inr (List.mem_cons.mpr (Or.inl rfl)))))))
    obtain ⟨w', τ', v, c, run, g⟩ := rd_loop1 (p := p) (b := cz w) (d := d) (e := e) (w0 := w) (T := TRD p w) ⟨m0, m5, m15, m16⟩ (fun r h1 h2 => TRD.mem h1 h2) _ w2 τ2 (Nat.le_refl _) ks ⟨((P2 0 (by decide)).2).trans (P1 0 (by decide)).2, ((P2 5 (by decide)).2).trans (P1 5 (by decide)).2, ((P2 15 (by decide)).2).trans (P1 15 (by decide)).2, ((P2 16 (by decide)).2).trans (P1 16 (by decide)).2⟩ hR2 Fr12.1
    obtain ⟨c1, c2, c3, c4, c5, c6⟩ := c
    refine ⟨w', τ', v, ⟨⟨Nat.le_trans Fr12.1 c1.1, Nat.le_trans Fr12.2.1 c1.2.1, c1.2.2.1.trans Fr12.2.2.1, fun r hr => ?_, fun r hr hn => ?_⟩, P12.trans (c2.mono (by decide)), c3, F12.trans (c4.mono (by decide)), c6.trans t2, ((c4 11 (by decide)).1.trans (F2 11 (by decide)).1).trans g6.2.2.2.1, ((c2 21 (by decide)).1.trans (P2 21 (by decide)).1).trans e21⟩, ?_, ?_⟩
    · have y1 := c1.2.2.2.1 r hr
      have y2 := Fr12.2.2.2.1 r hr
      exact ⟨y1.1.trans y2.1, y1.2.trans y2.2⟩
    · exact (c1.2.2.2.2 r hr hn).trans (frb.2.2.2.2 r hr hn)
    · intro Q Qf hQ l
      exact topT Qf (runT _ (bT_read_34 (fun I hI => run Q hQ (Qf, I) ⟨l, hI⟩)))
    · rcases g with ⟨a, g1, g2, g3, g4⟩ | ⟨hw, pl, x, g1, g2, g3, g4⟩
      · exact Or.inl ⟨g3.1, g3.2.1, g3.2.2.1, by have := g3.2.2.2; omega, fun Q X Qf hQ l => topC Q X Qf (runC _ (bC_X0_read_19 (fun I hI => g4 Q X hQ (Qf, I) ⟨l, hI⟩)))⟩
      · refine Or.inr ⟨hw, pl, x, ?_, g2, g3, fun Q X Qf hX l => topC Q X Qf (runC _ (bC_X0_read_19 (fun I hI => g4 Q X hX (Qf, I) ⟨l, hI⟩)))⟩
        have y0 : zm w' ≤ pot w' τ' := by unfold pot; omega
        omega
  · have D : Dd 1 (tI τ2 5) τ2 := Or.inr ⟨g2, g1, rfl, rfl, g3⟩
    obtain ⟨σ', v, k1, k2, k3, k4, k5⟩ := rd_dead1 (e := e + 9) D
    refine ⟨w2, σ', v, ⟨frb, P12, W2, F12.trans (k1.mono (by decide)), k3.trans t2, ((k1 11 (by decide)).1.trans (F2 11 (by decide)).1).trans g6.2.2.2.1, ((P2 21 (by decide)).1).trans e21⟩, ?_, Or.inr ⟨1, tI τ2 5, x, by omega, wr, k4, fun Q X Qf hX l => topC Q X Qf (runC _ (by rw [l.2] at hX; exact hX))⟩⟩
    intro Q Qf hQ l
    exact topT Qf (runT _ (bT_read_34 (fun I hI => k5 Q hQ (Qf, I) ⟨l, hI⟩)))
end ZRd3
