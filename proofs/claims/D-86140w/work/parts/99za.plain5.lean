/-! a place-holder, a number: both
-/
section ZPlain5
variable {p b e d : Nat} {w : CW} {τ : TW}
theorem sg_1 {i : Int} (h : ff_isSign i τ ≠ 0) : ff_isSign i τ = 1 ∧ tI τ 3 = 5 ∧ tI τ 4 = i := by
  by_cases z : tI τ 3 = 5 ∧ tI τ 4 = i
  · exact ⟨ff_s1 z, z.1, z.2⟩
  · exact absurd (ff_s0 z) h
theorem pl_any {m n o : Nat} {s much : Int} (h : PS p w τ o) (hb : b ≤ cz w) (h95 : ff_isSign 95 τ ≠ 0) (hR : Rm 1000 w τ) : PLN p b e n (m + 17) w τ s much o := by
  obtain ⟨rb, hK, hN, e16, e5, e32, ho, hwi, hmu, hsl, hsq⟩ := id h
  have hnp : np τ < 1700 := by have := rb.rg; have : tI τ 5 = tI τ 5 := rfl; omega
  have hroom := Rm.room rb hR (k := 3) (n := 20) (by decide)
  have hr1 := Rm.room rb hR (k := 1) (n := 8) (by decide)
  have e11 : fI w 11 p = tI τ 5 := rb.pl
  obtain ⟨v1, v2, v3⟩ := sg_1 h95
  have ty : fI w 10 p = 5 := rb.ty.trans v2
  have s45 : ff_isSign 45 τ = 0 := ff_s0 (fun y => by omega)
  have s40 : ff_isSign 40 τ = 0 := ff_s0 (fun y => by omega)
  have wd : ∀ c, ff_isWord c τ = 0 := fl_w (by omega)
  have z6 : b6 τ = 0 := b6_0 (by omega) s45
  have z13 : b13 τ = 0 := b13_0 (wd _) (wd _)
  have z34 : ¬ b34 s τ := by
    unfold b34
    rw [z6, z13, wd 10, v2]
    simp
  have x26 : b26 τ := Or.inr (Or.inr (Or.inr (Or.inr (Or.inr (Or.inl h95)))))
  by_cases hmz : much = 0
  · subst hmz
    refine OUTb.go (OUTb.cc (cm' := fun Q X => wpC p (m + 16) 4 [ar p] w (zqV (fun u108 => (cz u108 + 1 ≤ mz u108 ∧ cu u108 + 1 ≤ mu u108) ∧ ∀ u110 : CW, u110 = nO u108 6 1 → wpC p (m + 16) 95 [ar (cz u108 + 1)] u110 (zqV (fun u112 => Q (cz u108 + 1) u112) zno)) X)) (fun Q X hh => ?_) (OUTb.jT (fun I QF cl k => bgL rb ⟨e16, hnp⟩ (by omega) (by omega) x26 z34 (kd := 0) (by rw [z6, z13, if_pos rfl, if_pos rfl, if_neg (by omega), if_neg (by omega), if_pos s40, if_pos (wd _)]) k) ?_))
    · refine wC_X0_plain (Nat.zero_le _) (bC_X0_plain_0 (fa (br0 (by omega) ?_)))
      exact sR_isSign rb (by decide) (br0 h95 (fa (sC_needOk (by decide) hh)))
    · rw [z6]
      refine lf_go (m := m) h hR rb (by decide) (by decide) (by omega) (A := 0) (by rw [if_neg (by omega), wd, if_pos rfl]) (X := 0) (by rw [if_neg (by omega)]) hnp (C := fun u108 Q X => (cz u108 + 1 ≤ mz u108 ∧ cu u108 + 1 ≤ mu u108) ∧ ∀ u110 : CW, u110 = nO u108 6 1 → wpC p (m + 16) 95 [ar (cz u108 + 1)] u110 (zqV (fun u112 => Q (cz u108 + 1) u112) zno)) (by decide) (by decide) rb.f0 (fun u σ rb3 c3 hR3 l => ?_)
      have hr3 := Rm.room rb3 hR3 (k := 1) (n := 1) (by decide)
      obtain ⟨w1, hw1⟩ : ∃ w1, w1 = pI (nO u 6 1) 68 (cz u + 1) (-1) := ⟨_, rfl⟩
      obtain ⟨f1, W1, z1, u1, t1, g1⟩ := new1 rb3.1 6 1 68 (-1) hw1
      refine OUTb.nw (A0 := 1) (B0 := 1) (k := 6) (w' := w1) hR3 rb3 f1 W1 z1 u1 (by decide) (fun Q X hh => ⟨by omega, fa (sC_any (d := m + 14) hw1 hh)⟩) (fun rb4 c4 hR4 => ?_)
      have hcz := c3.1.1
      refine OUTb.iR (v := cz u + 1) (q := np τ) rb4 ⟨rfl, LD.pn h (c3.trans c4 (fun r hr => by cases hr) (fun f hf => by cases hf) (fun f hf => by cases hf)) rb4 l (by omega) g1 (Or.inl ⟨rfl, t1⟩)⟩ (fun Q X hh => hh) (fun I QF cl k => gIo l.2.2.2.2.2.2.2.2.2.2.2.2.2.2.1 k)
  · refine OUTb.go (OUTb.thr rb (fun Q X hh => ?_) (thM rb ⟨e16, hnp⟩ (by omega) (by omega) x26 z34 hmz))
    refine wC_X0_plain (Nat.zero_le _) (bC_X0_plain_0 (fa (br0 (by omega) ?_)))
    exact sR_isSign rb (by decide) (br0 h95 (fa (needNoP e11 (if_neg hmz) hr1 hh)))
theorem pl_num {m n o : Nat} {s much : Int} (h : PS p w τ o) (hb : b ≤ cz w) (h3 : tI τ 3 = 3 ∨ ff_isSign 45 τ ≠ 0) (hR : Rm 1000 w τ) : PLN p b e n (m + 17) w τ s much o := by
  obtain ⟨rb, hK, hN, e16, e5, e32, ho, hwi, hmu, hsl, hsq⟩ := id h
  have hnp : np τ < 1700 := by have := rb.rg; have : tI τ 5 = tI τ 5 := rfl; omega
  have hroom := Rm.room rb hR (k := 3) (n := 20) (by decide)
  have hr1 := Rm.room rb hR (k := 1) (n := 8) (by decide)
  have e11 : fI w 11 p = tI τ 5 := rb.pl
  have hn : tI τ 3 ≠ 1 ∧ tI τ 3 ≠ 2 ∧ tI τ 3 ≠ 4 ∧ tI τ 3 ≠ 6 ∧ tI τ 3 ≠ 0 := by
    rcases h3 with y | y
    · omega
    · have := (sg_1 y).2.1; omega
  have s95 : ff_isSign 95 τ = 0 := ff_s0 (fun y => by
    rcases h3 with z | z
    · omega
    · have := (sg_1 z).2.2; omega)
  have wd : ∀ c, ff_isWord c τ = 0 := fl_w hn.2.2.2.1
  have ty : fI w 10 p = tI τ 3 := rb.ty
  have z6 : b6 τ = 1 := b6_1 h3
  have z13 : b13 τ = 0 := b13_0 (wd _) (wd _)
  have z34 : b34 s τ ↔ s ≠ 0 := by
    have n4 := hn.2.2.1
    unfold b34
    rw [z6, z13, wd 10]
    simp [n4]
  have x26 : b26 τ := Or.inl (by rw [z6]; decide)
  have go : ∀ {Q : ZRes → CW → Prop}, pC_X0_plain_118 p (wpC p (m + 16)) (fun v w => Q (.inl (some (ar v))) w) (fun x w => Q (.inr x) w) s much (fI w 11 p) w → wpC p (m + 17) 23 [ar p, ai s, ai much] w Q := by
    intro Q hh
    refine wC_X0_plain (Nat.zero_le _) (bC_X0_plain_0 (fa (br0 (by omega) ?_)))
    refine sR_isSign rb (by decide) (br1 s95 ⟨fun _ => hh, fun y => ?_⟩)
    refine sR_isSign rb (by decide) (br0 ?_ hh)
    rcases h3 with z | z
    · exact absurd (ty.trans z) y
    · exact z
  by_cases hs : s = 0
  · by_cases hmz : much = 0
    · subst hmz
      have F1 := nwT_ft τ 1 s
      obtain ⟨k17, k18, k19, k20, k21, k22, k23, k24, k25, k26⟩ := nwT_new τ 1 s
      have U1 := UT.new (τ := τ) 1 s o
      have eP := nwT_np τ 1 s
      obtain ⟨σ1, hσ1⟩ : ∃ σ1, σ1 = nwT τ 1 s := ⟨_, rfl⟩
      rw [← hσ1] at F1 k17 k18 k19 k20 k21 k22 k23 k24 k25 k26 U1 eP
      have qr : (0 : Int) ≤ np τ ∧ (np τ : Int) < 1700 := by omega
      refine OUTb.go (OUTb.cc (fun Q X hh => go (bC_X0_plain_118 (fa (sC_needOk (by rw [if_pos hs]; decide) (fa (sC_needOk (by decide) hh)))))) (OUTb.jM (τ' := σ1) (F' := fun I _ => pT_begins_450 (wpT (e + 7)) (fun v u => zqI (fun v u => I v o u) zno (.inl (some (ai v))) u) (tI τ 5) (b6 τ) (-4) (np τ) σ1) hR rb F1 (fun I QF cl k => bgL rb ⟨e16, hnp⟩ hn.1 hn.2.1 x26 (fun y => (z34.mp y) hs) (kd := 1) (by rw [if_neg (by rw [z6]; decide)]) (by rw [← hσ1]; exact k)) (fun rb1 hR1 => ?_)))
      refine OUTb.jW (S1 := [19]) hR1 rb1 (sA σ1 19 (np τ) 0) ((FT.refl _ _).ssA (by decide)) (fun I QF k => bT_begins_450 (fa ⟨qr, fun u hu => k u (by rw [hu, if_neg (by rw [(F1 3 (by decide)).1]; exact hn.2.1), fl_w (by rw [(F1 3 (by decide)).1]; exact hn.2.2.2.1), if_pos rfl])⟩)) (fun σ2 e2 rb2 G2 hR2 => ?_)
      refine OUTb.jW (S1 := [21]) hR2 rb2 (sA σ2 21 (np τ) 0) ((FT.refl _ _).ssA (by decide)) (fun I QF k => fa ⟨qr, fun u hu => k u (by rw [hu, if_neg (by rw [(G2 3 (by decide)).1, (F1 3 (by decide)).1]; exact hn.2.2.1)])⟩) (fun σ3 e3 rb3 G3 hR3 => ?_)
      have FA : FT [16, 17, 18, 19, 20, 21, 22, 23, 24, 25, 26] τ σ3 := (F1.trans (G2.mono (by decide))).trans (G3.mono (by decide))
      have U3 : UT τ σ3 o := (U1.wr (by decide) e2).wr (by decide) e3
      have nd : ∀ f x : Nat, (f ≠ 19 ∧ f ≠ 21) → tA σ3 f x = tA σ1 f x := fun f x hf => by
        rw [e3, tA_sA, if_neg (fun y => hf.2 y.1), e2, tA_sA, if_neg (fun y => hf.1 y.1)]
      have eP3 : np σ3 = np τ + 1 := by rw [np_ft G3 (by decide), np_ft G2 (by decide)]; exact eP.2
      have eR3 : nR σ3 = nR τ := nR_ft FA (by decide)
      refine OUTb.jB (F2 := fun _ u I _ => RgE σ3 u (np τ) → I (np τ) o u) hR3 ((pr_range (d := m + 1) (e := e) (q := np τ) (first := tI τ 5) (T := []) (S := [9, 10, 11, 12, 13, 14]) (S' := [2, 3, 4, 5, 6, 7, 8, 19, 20]) rb3 hnp (fun f hf => hf) (fun f hf => hf) (hR3.le (by decide))).more (by decide)) (cm2 := fun v u Q X => Q v u) (fun Q X hh => ?_) (fun I QF cl k => br1 rb3.f0 (br0 (by rw [z6]; decide) (k _ (fun u q1 q2 => q1 q2)))) (fun r _ u σ rb4 nn c4 hR4 => ?_) (fun h pl _ σ D F => ?_)
      · rw [e11]; exact hh
      · obtain ⟨⟨⟨m1, m2, m3, m4, m5, m6, m7, m8⟩, m9⟩, m10⟩ := nn
        have cA : CF p [] [] [16, 17, 18, 19, 20, 21, 22, 23, 24, 25, 26] w τ w σ3 := ⟨Fr.refl _ _, PF.refl _ _ _, rb.1, FA, by rw [show tI σ3 5 = tI τ 5 from (FA 5 (by decide)).1]; exact Int.le_refl _, (FA 1 (by decide)).1⟩
        have ct := (cA.mono (S := [9, 10, 11, 12, 13, 14]) (S' := [2, 3, 4, 5, 6, 7, 8, 16, 17, 18, 19, 20, 21, 22, 23, 24, 25, 26]) rb.1 (T := []) (fun r hr => by cases hr) (fun f hf => by cases hf) (by decide)).trans c4 (fun r hr => by cases hr) (fun f hf => hf) (by decide)
        have g6 : ∀ f x : Nat, f ≠ 19 → f ≠ 20 → 16 ≤ f → tA σ f x = tA σ3 f x := fun f x h1 h2 h3 => (c4.2.2.2.1 f (by simp only [List.mem_cons, List.not_mem_nil, or_false]; omega)).2 _
        have eP6 : np σ = np τ + 1 := by rw [np_ft c4.2.2.2.1 (by decide)]; exact eP3
        have U6 : UT τ σ o := by
          obtain ⟨a1, a2, a3, a4, a5⟩ := U3
          refine ⟨fun f h1 h2 x hx => ?_, fun f h1 h2 x hx => (g6 f x (by omega) (by omega) (by omega)).trans (a2 f h1 h2 x hx), fun x hx => (g6 40 x (by decide) (by decide) (by decide)).trans (a3 x hx), fun x hx => ⟨(g6 29 x (by decide) (by decide) (by decide)).trans (a4 x hx).1, (g6 30 x (by decide) (by decide) (by decide)).trans (a4 x hx).2⟩, fun x hx => (g6 28 x (by decide) (by decide) (by decide)).trans (a5 x hx)⟩
          by_cases y : f = 19
          · subst y; exact ((m9 x (by omega)).1).trans (a1 19 h1 h2 x hx)
          · by_cases y2 : f = 20
            · subst y2; exact ((m9 x (by omega)).2).trans (a1 20 h1 h2 x hx)
            · exact (g6 f x y y2 (by omega)).trans (a1 f h1 h2 x hx)
        have e32' : tI σ 32 = o := by rw [(c4.2.2.2.1 32 (by decide)).1, (FA 32 (by decide)).1]; exact e32
        have e55 : tI σ3 5 = tI τ 5 := (FA 5 (by decide)).1
        have hfr : tI τ 5 + 1 ≤ tI σ 5 := by omega
        refine OUTb.jT (F' := fun I _ => I (np τ) o σ) (fun I QF cl k _ => k) (OUTb.jR (v := r) (q := np τ) rb4 ⟨rfl, PN.leaf (S := [9, 10, 11, 12, 13, 14]) (S' := [2, 3, 4, 5, 6, 7, 8, 16, 17, 18, 19, 20, 21, 22, 23, 24, 25, 26]) h ct rb4 eP6 ?_ (by rw [eP6]; omega) U6 ?_ ?_ ?_ ?_ ?_ (by omega) m3 (Or.inr (Or.inl ⟨?_, m2, m4, m5, m6, m7, m8, hs⟩))⟩ (fun Q X hh => hh) (fun I QF cl k => gIo e32' k))
        · rw [eP6, (c4.2.2.2.1 16 (by decide)).1, (G3 16 (by decide)).1, (G2 16 (by decide)).1]; exact eP.1
        · rw [g6 _ _ (by decide) (by decide) (by decide), nd 18 _ (by decide)]; exact k18
        · rw [g6 _ _ (by decide) (by decide) (by decide), nd 23 _ (by decide)]; exact k23
        · rw [g6 _ _ (by decide) (by decide) (by decide), nd 24 _ (by decide)]; exact k24
        · rw [g6 _ _ (by decide) (by decide) (by decide), nd 25 _ (by decide)]; exact k25
        · rw [g6 _ _ (by decide) (by decide) (by decide), nd 26 _ (by decide)]; exact k26
        · rw [g6 _ _ (by decide) (by decide) (by decide), nd 17 _ (by decide)]; exact k17
      · by_cases hE : RgE σ3 σ (np τ)
        · have g6 : ∀ f x : Nat, f ≠ 19 → f ≠ 20 → 16 ≤ f → tA σ f x = tA σ3 f x := fun f x h1 h2 h3 => (F f (by simp only [List.mem_cons, List.not_mem_nil, or_false]; omega)).2 _
          have U6 : UT τ σ o := by
            obtain ⟨a1, a2, a3, a4, a5⟩ := U3
            refine ⟨fun f h1 h2 x hx => ?_, fun f h1 h2 x hx => (g6 f x (by omega) (by omega) (by omega)).trans (a2 f h1 h2 x hx), fun x hx => (g6 40 x (by decide) (by decide) (by decide)).trans (a3 x hx), fun x hx => ⟨(g6 29 x (by decide) (by decide) (by decide)).trans (a4 x hx).1, (g6 30 x (by decide) (by decide) (by decide)).trans (a4 x hx).2⟩, fun x hx => (g6 28 x (by decide) (by decide) (by decide)).trans (a5 x hx)⟩
            by_cases y : f = 19
            · subst y; exact ((hE x (by omega)).1).trans (a1 19 h1 h2 x hx)
            · by_cases y2 : f = 20
              · subst y2; exact ((hE x (by omega)).2).trans (a1 20 h1 h2 x hx)
              · exact (g6 f x y y2 (by omega)).trans (a1 f h1 h2 x hx)
          refine DD.jT (F' := fun I _ => I (np τ) o σ) (fun I QF cl k _ => k) ?_
          exact DD.jS (dI15 (R := nR τ) D (by rw [(F 27 (by decide)).1, (FA 27 (by decide)).1]; exact hN.2.1) hN.2.2.1 (by rw [(F 32 (by decide)).1, (FA 32 (by decide)).1]; exact e32) (by omega) (fun k hk => (hsl k (by omega)).on (by omega) U6 (hsq k (by omega))) (fun _ => qr) (by omega))
        · exact DD.jE (x := 0) D (fun I QF cl _ y => absurd y hE) (Or.inr ⟨by decide, by decide⟩)
    · refine OUTb.go (OUTb.thr rb (fun Q X hh => go ?_) (thM rb ⟨e16, hnp⟩ hn.1 hn.2.1 x26 (fun y => (z34.mp y) hs) hmz))
      exact bC_X0_plain_118 (fa (sC_needOk (by rw [if_pos hs]; decide) (fa (needNoP e11 (if_neg hmz) hr1 hh))))
  · refine OUTb.go (OUTb.thr rb (fun Q X hh => go ?_) (thW rb ⟨e16, hnp⟩ hn.2.1 x26 (z34.mpr hs)))
    exact bC_X0_plain_118 (fa (needNoP e11 (if_neg hs) hr1 hh))
end ZPlain5
