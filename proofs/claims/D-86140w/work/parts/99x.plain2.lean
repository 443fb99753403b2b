/-! patterns without others within, both -/
section ZPlain2
variable {p b e d : Nat} {w : CW} {τ : TW}
/-- no pattern begins so -/
theorem thX {s much : Int} {o : Nat} {G : PI → PQ → Int → TW → Prop} (h : RB p w τ) (hx : ¬ b26 τ) : DD SPT 2 (tI τ 5) (tmJ e G (fun I _ => wpT (e + 8) 25 [ai s, ai much] τ (zqI (fun v u => I v o u) zno))) τ := by
  obtain ⟨σ', ⟨a, b, c⟩, run⟩ := RB.stop (e := e + 5) h (k := 2) (by decide)
  refine DD.jP (σ := σ') (S1 := [7, 8]) (F' := fun I _ => I (-4) o σ') a (fun I QF cl k => wT_begins (by omega) (bT_begins_0 (fa (fa (fa (fa (br1 (if_neg (α := Int) hx) (run _ k)))))))) (DD.jF (x := -4) (y := o) b c (fun I QF cl k => k))
theorem thW {s much : Int} {o : Nat} {G : PI → PQ → Int → TW → Prop} (h : RB p w τ) (hn : tI τ 16 = np τ ∧ np τ < 1700) (h2 : tI τ 3 ≠ 2) (hx : b26 τ) (h34 : b34 s τ) : DD SPT 5 (tI τ 5) (tmJ e G (fun I _ => wpT (e + 8) 25 [ai s, ai much] τ (zqI (fun v u => I v o u) zno))) τ := by
  obtain ⟨kd, hkd⟩ : ∃ kd : Int, kd = (if b6 τ = 0 then (if b13 τ = 0 then (if (tI τ 3) = 4 then 3 else (if (tI τ 3) = 2 then 5 else (if (ff_isSign 40 τ) = 0 then (if (ff_isWord 10 τ) = 0 then 0 else 4) else 6))) else 2) else 1) := ⟨_, rfl⟩
  obtain ⟨σ1, ⟨a, b, c⟩, run⟩ := RB.fails (e := e + 6) (pl := tI τ 5) h (k := 5) (by decide)
  have e6 : b6 σ1 = b6 τ := by
    unfold b6 ff_isSign
    rw [(a 3 (by decide)).1, (a 4 (by decide)).1]
  have e13 : b13 σ1 = b13 τ := by
    unfold b13 ff_isWord
    rw [(a 3 (by decide)).1, (a 4 (by decide)).1]
  have ekd : kd = (if b6 σ1 = 0 then (if b13 σ1 = 0 then (if (tI σ1 3) = 4 then 3 else (if (tI σ1 3) = 2 then 5 else (if (ff_isSign 40 σ1) = 0 then (if (ff_isWord 10 σ1) = 0 then 0 else 4) else 6))) else 2) else 1) := by
    rw [hkd, e6, e13]
    unfold ff_isSign ff_isWord
    rw [(a 3 (by decide)).1, (a 4 (by decide)).1]
  have en : np σ1 = np τ := np_ft a (by decide)
  have F2 := nwT_ft σ1 kd s
  have hf : tI (nwT σ1 kd s) 7 ≠ 0 := by rw [(F2 7 (by decide)).1]; exact c
  refine DD.jP (σ := nwT σ1 kd s) (S1 := [7, 8, 16, 17, 18, 19, 20, 21, 22, 23, 24, 25, 26]) (F' := fun I _ => I (-4) o (nwT σ1 kd s)) ((a.mono (by decide)).trans (F2.mono (by decide))) (fun I QF cl k => bg0 hx (fun v34 hv => br0 h2 (bT_begins_209 (br0 (fun y => h2 y.1) (bT_begins_235 (br0 (fun y => (hv.mp y) h34) (bT_begins_277 (run _ (bT_begins_283 (fa ?_))))))))) ) (DD.jF (x := -4) (y := o) (b.ft F2 (by decide)) hf (fun I QF cl k => k))
  rw [← e6, ← e13, ← ekd]
  refine sT_new (d := e + 6) (by rw [en, (a 16 (by decide)).1]; exact hn.1) (by rw [en]; exact hn.2) (br0 (fun y => hf y.2) (dd409 hf k))
theorem thM {s much : Int} {o : Nat} {G : PI → PQ → Int → TW → Prop} (h : RB p w τ) (hn : tI τ 16 = np τ ∧ np τ < 1700) (h1 : tI τ 3 ≠ 1) (h2 : tI τ 3 ≠ 2) (hx : b26 τ) (h34 : ¬ b34 s τ) (hm : much ≠ 0) : DD SPT 9 (tI τ 5) (tmJ e G (fun I _ => wpT (e + 8) 25 [ai s, ai much] τ (zqI (fun v u => I v o u) zno))) τ := by
  obtain ⟨kd, hkd⟩ : ∃ kd : Int, kd = (if b6 τ = 0 then (if b13 τ = 0 then (if (tI τ 3) = 4 then 3 else (if (tI τ 3) = 2 then 5 else (if (ff_isSign 40 τ) = 0 then (if (ff_isWord 10 τ) = 0 then 0 else 4) else 6))) else 2) else 1) := ⟨_, rfl⟩
  have F := nwT_ft τ kd s
  have h1' : ¬ tI (nwT τ kd s) 3 = 1 := by rw [(F 3 (by decide)).1]; exact h1
  obtain ⟨σ', ⟨a, b, c⟩, run⟩ := RB.fails (e := e + 6) (pl := tI τ 5) (h.ft F (by decide)) (k := 9) (by decide)
  refine DD.jP (σ := σ') (S1 := [7, 8, 16, 17, 18, 19, 20, 21, 22, 23, 24, 25, 26]) (F' := fun I _ => I (-4) o σ') ((F.mono (by decide)).trans (a.mono (by decide))) (fun I QF cl k => bg0 hx (fun v34 hv => br0 h2 (bT_begins_209 (br0 (fun y => h2 y.1) (bT_begins_235 (br1 (hv.mpr h34) (br0 h2 (bT_begins_283 (fa ?_))))))))) (DD.jF (x := -4) (y := o) b c (fun I QF cl k => k))
  rw [← hkd]
  exact sT_new (d := e + 6) hn.1 hn.2 (br0 (fun y => h1' y.1) (bT_begins_409 (br0 hm (run _ (dd420 c k)))))
theorem bgL {s kd : Int} {Q : ZRes → TW → Prop} (h : RB p w τ) (hn : tI τ 16 = np τ ∧ np τ < 1700) (h1 : tI τ 3 ≠ 1) (h2 : tI τ 3 ≠ 2) (hx : b26 τ) (h34 : ¬ b34 s τ) (hkd : kd = (if b6 τ = 0 then (if b13 τ = 0 then (if (tI τ 3) = 4 then 3 else (if (tI τ 3) = 2 then 5 else (if (ff_isSign 40 τ) = 0 then (if (ff_isWord 10 τ) = 0 then 0 else 4) else 6))) else 2) else 1))
    (hQ : pT_begins_450 (wpT (e + 7)) (fun v w => Q (.inl (some (ai v))) w) (tI τ 5) (b6 τ) (-4) (np τ) (nwT τ kd s)) : wpT (e + 8) 25 [ai s, ai 0] τ Q :=
  bg0 hx (fun v34 hv => br0 h2 (bT_begins_209 (br0 (fun y => h2 y.1) (bT_begins_235 (br1 (hv.mpr h34) (br0 h2 (bg283 hn h.f0 h1 hkd hQ)))))))
/-- a row behind its token -/
def LF (τ σ : TW) (o : Nat) (kd s A B X : Int) : Prop := np σ = np τ + 1 ∧ tI σ 16 = np σ ∧ (np σ : Int) ≤ tI σ 5 ∧ UT τ σ o ∧ tA σ 17 (np τ) = kd ∧ tA σ 18 (np τ) = s ∧ tA σ 19 (np τ) = A ∧ tA σ 20 (np τ) = B ∧ tA σ 21 (np τ) = X ∧ tA σ 22 (np τ) = -4 ∧ tA σ 23 (np τ) = -4 ∧ tA σ 24 (np τ) = -4 ∧ tA σ 25 (np τ) = -4 ∧ tA σ 26 (np τ) = 1 ∧ tI σ 32 = o ∧ nR σ = nR τ
theorem lf_go {α : Type} {T : List Nat} {C : CW → (α → CW → Prop) → (Nat → CW → Prop) → Prop} {N : α → Int × Int → CW → TW → Prop} {m o b0 : Nat} {s kd x8 A X A0 a t : Int} {w2 : CW} (h : PS p w τ o) (hR : Rm A0 w2 τ) (rb2 : RB p w2 τ) (hA0 : 100 ≤ A0) (ht : -5900 ≤ t) (hs0 : tI τ 3 ≠ 0)
    (hA : A = (if (tI τ 3) = 2 then x8 else (if (ff_isWord 8 τ) = 0 then 0 else 1))) (hX : X = if (tI τ 3) = 4 then tI τ 4 else 0) (hnp : np τ < 1700)
    (hkd : kd ≠ 6) (hkd5 : kd ≠ 5) (hh5 : tI τ 7 = 0)
    (h2 : ∀ u σ, RB p u σ → CF p [] [9, 10, 11, 12, 13, 14] [2, 3, 4, 5, 6, 16, 17, 18, 19, 20, 21, 22, 23, 24, 25, 26] w2 τ u σ → Rm (A0 - -5900) u σ → LF τ σ o kd s A 0 X → OUTb p b0 T SPC SPT (a - -5900) (t - -5900) N (C u) (tmG e gI (fun I _ => I (np τ) o σ)) u σ) :
    OUTb p b0 T SPC SPT a t N (fun Q X => wpC p (m + 16) 4 [ar p] w2 (zqV (fun u => C u Q X) X)) (tmJ e gI (fun I _ => pT_begins_450 (wpT (e + 7)) (fun v u => zqI (fun v u => I v o u) zno (.inl (some (ai v))) u) (tI τ 5) 0 x8 (np τ) (nwT τ kd s))) w2 τ := by
  obtain ⟨rb, hK, hN, e16, e5, e32, ho, hwi, hmu, hsl, hsq⟩ := id h
  have F1 := nwT_ft τ kd s
  obtain ⟨k17, k18, k19, k20, k21, k22, k23, k24, k25, k26⟩ := nwT_new τ kd s
  have U1 := UT.new (τ := τ) kd s o
  have eP := nwT_np τ kd s
  obtain ⟨σ1, hσ1⟩ : ∃ σ1, σ1 = nwT τ kd s := ⟨_, rfl⟩
  rw [← hσ1] at F1 k17 k18 k19 k20 k21 k22 k23 k24 k25 k26 U1 eP ⊢
  have qr : (0 : Int) ≤ np τ ∧ (np τ : Int) < 1700 := by omega
  have eA : (if (tI σ1 3) = 2 then x8 else (if (ff_isWord 8 σ1) = 0 then 0 else 1)) = A := by
    rw [hA]
    unfold ff_isWord
    rw [(F1 3 (by decide)).1, (F1 4 (by decide)).1]
  refine OUTb.jM (τ' := σ1) hR rb2 F1 (fun I QF cl k => k) (fun rb3 hR3 => ?_)
  refine OUTb.jW (S1 := [19]) hR3 rb3 (sA σ1 19 (np τ) A) ((FT.refl _ _).ssA (by decide)) (fun I QF k => bT_begins_450 (fa ⟨qr, fun u hu => k u (by rw [hu, eA])⟩)) (fun σ2 e2 rb4 G2 hR4 => ?_)
  have eX : (if (tI σ2 3) = 4 then tI σ2 4 else 0) = X := by
    rw [hX, (G2 3 (by decide)).1, (G2 4 (by decide)).1, (F1 3 (by decide)).1, (F1 4 (by decide)).1]
  refine OUTb.jW (S1 := [21]) hR4 rb4 (sA σ2 21 (np τ) X) ((FT.refl _ _).ssA (by decide)) (fun I QF k => fa ⟨qr, fun u hu => k u (by rw [hu, eX])⟩) (fun σ3 e3 rb5 G3 hR5 => ?_)
  have FA : FT [16, 17, 18, 19, 20, 21, 22, 23, 24, 25, 26] τ σ3 := (F1.trans (G2.mono (by decide))).trans (G3.mono (by decide))
  have U3 : UT τ σ3 o := (U1.wr (by decide) e2).wr (by decide) e3
  have nd : ∀ f x : Nat, (f ≠ 19 ∧ f ≠ 21) → tA σ3 f x = tA σ1 f x := fun f x hf => by
    rw [e3, tA_sA, if_neg (fun y => hf.2 y.1), e2, tA_sA, if_neg (fun y => hf.1 y.1)]
  have d17 : tA σ3 17 (np τ) = kd := (nd 17 _ (by decide)).trans k17
  have eP3 : np σ3 = np τ + 1 := by rw [np_ft G3 (by decide), np_ft G2 (by decide)]; exact eP.2
  have eR3 : nR σ3 = nR τ := nR_ft FA (by decide)
  refine OUTb.jBV hR5 (OUT.nx1 (d := m + 4) (e := e + 3) rb5 (by rw [(FA 3 (by decide)).1]; exact hs0) (hR5.le hA0)) (fun Q X hh => hh) (fun I QF cl k => br1 rb5.f0 (br1 rfl k)) (fun _ _ u σ rb6 hfr c6 hR6 => ?_) (fun h pl σ D F => ?_) (ht := ht)
  · have z17 : tA σ 17 (np τ) = kd := ((c6.2.2.2.1 17 (by decide)).2 _).trans d17
    have cA : CF p [] [] [16, 17, 18, 19, 20, 21, 22, 23, 24, 25, 26] w2 τ w2 σ3 := ⟨Fr.refl _ _, PF.refl _ _ _, rb2.1, FA, by rw [show tI σ3 5 = tI τ 5 from (FA 5 (by decide)).1]; exact Int.le_refl _, (FA 1 (by decide)).1⟩
    have ct := (cA.mono (S := [9, 10, 11, 12, 13, 14]) (S' := [2, 3, 4, 5, 6, 16, 17, 18, 19, 20, 21, 22, 23, 24, 25, 26]) rb2.1 (T := []) (fun r hr => by cases hr) (fun f hf => by cases hf) (by decide)).trans c6 (fun r hr => by cases hr) (fun f hf => hf) (by decide)
    have g6 : ∀ f x : Nat, 16 ≤ f → tA σ f x = tA σ3 f x := fun f x hf => (c6.2.2.2.1 f (by simp only [List.mem_cons, List.not_mem_nil, or_false]; omega)).2 _
    have e55 : tI σ3 5 = tI τ 5 := (FA 5 (by decide)).1
    have eP6 : np σ = np τ + 1 := by rw [np_ft c6.2.2.2.1 (by decide)]; exact eP3
    refine OUTb.jT (F' := fun I _ => I (np τ) o σ) (fun I QF cl k => ⟨qr, br0 (fun y => by rw [z17] at y; exact hkd5 y.1) (bT_begins_600 ⟨qr, br0 (by rw [z17]; exact hkd) (bT_begins_619 k)⟩)⟩) ?_
    refine OUTb.jS (h2 u σ rb6 ct hR6 ⟨eP6, ?_, ?_, U3.trans (UT.ft c6.2.2.2.1 (by decide) o) (by omega) eR3, z17, ?_, ?_, ?_, ?_, ?_, ?_, ?_, ?_, ?_, ?_, (nR_ft c6.2.2.2.1 (by decide)).trans eR3⟩)
    · rw [eP6, (c6.2.2.2.1 16 (by decide)).1, (G3 16 (by decide)).1, (G2 16 (by decide)).1]; exact eP.1
    · rw [eP6]; omega
    · rw [g6 _ _ (by decide), nd 18 _ (by decide)]; exact k18
    · rw [g6 _ _ (by decide), (G3 19 (by decide)).2, e2, tA_sA, if_pos ⟨rfl, rfl⟩]
    · rw [g6 _ _ (by decide), nd 20 _ (by decide)]; exact k20
    · rw [g6 _ _ (by decide), e3, tA_sA, if_pos ⟨rfl, rfl⟩]
    · rw [g6 _ _ (by decide), nd 22 _ (by decide)]; exact k22
    · rw [g6 _ _ (by decide), nd 23 _ (by decide)]; exact k23
    · rw [g6 _ _ (by decide), nd 24 _ (by decide)]; exact k24
    · rw [g6 _ _ (by decide), nd 25 _ (by decide)]; exact k25
    · rw [g6 _ _ (by decide), nd 26 _ (by decide)]; exact k26
    · rw [(c6.2.2.2.1 32 (by decide)).1, (FA 32 (by decide)).1]; exact e32
  · have z17 : tA σ 17 (np τ) = kd := ((F 17 (by decide)).2 _).trans d17
    refine DD.jT (F' := fun I _ => I (np τ) o σ) (fun I QF cl k => ⟨qr, br0 (fun y => by rw [z17] at y; exact hkd5 y.1) (bT_begins_600 ⟨qr, br0 (by rw [z17]; exact hkd) (bT_begins_619 k)⟩)⟩) ?_
    have U6 : UT τ σ o := U3.trans (UT.ft F (by decide) o) (by omega) eR3
    exact DD.jS (dI15 (R := nR τ) D (by rw [(F 27 (by decide)).1, (FA 27 (by decide)).1]; exact hN.2.1) hN.2.2.1 (by rw [(F 32 (by decide)).1, (FA 32 (by decide)).1]; exact e32) (by omega) (fun k hk => (hsl k (by omega)).on (by omega) U6 (hsq k (by omega))) (fun _ => qr) (by omega))
end ZPlain2
