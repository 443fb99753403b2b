/-! alternatives, both -/
section ZAlt
variable {p b e d : Nat} {w : CW} {τ : TW}
theorem pl_alt {m n o : Nat} {s much : Int} (h : PS p w τ o) (hb : b ≤ cz w) (s40 : ff_isSign 40 τ ≠ 0) (hs0 : 0 ≤ s) (hs : s < 3 + nK τ) (hrec : much = 0 → ∃ n', n = n' + 1 ∧ 3 * n' + 21 ≤ m + 18 ∧ PTH p e n' (o + 1)) (ho5 : much = 0 → o < 6) (hR : Rm 1800 w τ) : PLN p b e n (m + 20) w τ s much o := by
  obtain ⟨rb, hK, hN, e16, e5, e32, ho, hwi, hmu, hsl, hsq⟩ := id h
  have hnp : np τ < 1700 := by have := rb.rg; have : tI τ 5 = tI τ 5 := rfl; omega
  have hroom := Rm.room rb hR (k := 3) (n := 20) (by decide)
  have hr1 := Rm.room rb hR (k := 1) (n := 8) (by decide)
  have e11 : fI w 11 p = tI τ 5 := rb.pl
  obtain ⟨v1, v2, v3⟩ := sg_1 s40
  have ty : fI w 10 p = 5 := rb.ty.trans v2
  have s45 : ff_isSign 45 τ = 0 := ff_s0 (fun y => by omega)
  have s95 : ff_isSign 95 τ = 0 := ff_s0 (fun y => by omega)
  have wd : ∀ c, ff_isWord c τ = 0 := fl_w (by omega)
  have z6 : b6 τ = 0 := b6_0 (by omega) s45
  have z13 : b13 τ = 0 := b13_0 (wd _) (wd _)
  have z34 : ¬ b34 s τ := by
    unfold b34
    rw [z6, z13, wd 10, v2]
    simp
  have x26 : b26 τ := Or.inr (Or.inr (Or.inr (Or.inr (Or.inr (Or.inr (Or.inl s40))))))
  have pk : ∀ {Q : ZRes → CW → Prop}, wpC p (m + 19) 10 [ar p, ai (if much = 0 then 1 else 0), ai 9, ai (fI w 11 p)] w (zqV (fun u91 => wpC p (m + 19) 32 [ar p, ai s] u91 (zqR (fun v u => Q (.inl (some (ar v))) u) (fun x u => Q (.inr x) u))) (fun x u => Q (.inr x) u)) → wpC p (m + 20) 23 [ar p, ai s, ai much] w Q := by
    intro Q hh
    refine wC_X0_plain (Nat.zero_le _) (bC_X0_plain_0 (fa (br0 (by omega) ?_)))
    refine sR_isSign rb (by decide) (br1 s95 (br0 (by omega) ?_))
    refine sR_isSign rb (by decide) (br1 s45 (br0 (by omega) ?_))
    exact sR_isSign rb (by decide) (br0 s40 (fa hh))
  by_cases hmz : much = 0
  · subst hmz
    have ho6 := ho5 rfl
    obtain ⟨n', hn', hM', hPT⟩ := hrec rfl
    subst hn'
    have F1 := nwT_ft τ 6 s
    obtain ⟨k17, k18, k19, k20, k21, k22, k23, k24, k25, k26⟩ := nwT_new τ 6 s
    have U1 := UT.new (τ := τ) 6 s o
    have eP := nwT_np τ 6 s
    obtain ⟨σ1, hσ1⟩ : ∃ σ1, σ1 = nwT τ 6 s := ⟨_, rfl⟩
    have qr : (0 : Int) ≤ np τ ∧ (np τ : Int) < 1700 := by omega
    refine OUTb.go (OUTb.cc (cm' := fun Q X => pC_X0_either_0 p (wpC p (m + 18)) (fun v w => Q v w) (fun x w => X x w) s w) (fun Q X hh => pk (sC_needOk (by decide) (wC_X0_either (Nat.zero_le _) hh))) (OUTb.jM (τ' := σ1) (F' := fun I _ => pT_begins_450 (wpT (e + 7)) (fun v u => zqI (fun v u => I v o u) zno (.inl (some (ai v))) u) (tI τ 5) 0 (-4) (np τ) σ1) hR rb (by rw [hσ1]; exact F1) (fun I QF cl kk => bgL rb ⟨e16, hnp⟩ (by omega) (by omega) x26 z34 (kd := 6) (by rw [z6, z13, if_pos rfl, if_pos rfl, if_neg (by omega), if_neg (by omega), if_neg s40]) (by rw [z6, ← hσ1]; exact kk)) (fun rb1 hR1 => ?_)))
    rw [← hσ1] at F1 k17 k18 k19 k20 k21 k22 k23 k24 k25 k26 U1 eP
    have wd1 : ff_isWord 8 σ1 = 0 := by
      unfold ff_isWord
      rw [if_neg]
      rw [(F1 3 (by decide)).1]
      omega
    refine OUTb.jW (S1 := [19]) hR1 rb1 (sA σ1 19 (np τ) 0) ((FT.refl _ _).ssA (by decide)) (fun I QF kk => bT_begins_450 (fa ⟨qr, fun u hu => kk u (by rw [hu, if_neg (by rw [(F1 3 (by decide)).1]; omega), if_pos wd1])⟩)) (fun σ2 e2 rb2 G2 hR2 => ?_)
    refine OUTb.jW (S1 := [21]) hR2 rb2 (sA σ2 21 (np τ) 0) ((FT.refl _ _).ssA (by decide)) (fun I QF kk => fa ⟨qr, fun u hu => kk u (by rw [hu, if_neg (by rw [(G2 3 (by decide)).1, (F1 3 (by decide)).1]; omega)])⟩) (fun σ3 e3 rb3 G3 hR3 => ?_)
    have FA : FT [16, 17, 18, 19, 20, 21, 22, 23, 24, 25, 26] τ σ3 := (F1.trans (G2.mono (by decide))).trans (G3.mono (by decide))
    have U3 : UT τ σ3 o := (U1.wr (by decide) e2).wr (by decide) e3
    have nd : ∀ f x : Nat, (f ≠ 19 ∧ f ≠ 21) → tA σ3 f x = tA σ1 f x := fun f x hf => by
      rw [e3, tA_sA, if_neg (fun y => hf.2 y.1), e2, tA_sA, if_neg (fun y => hf.1 y.1)]
    have eP3 : np σ3 = np τ + 1 := by rw [np_ft G3 (by decide), np_ft G2 (by decide)]; exact eP.2
    have eR3 : nR σ3 = nR τ := nR_ft FA (by decide)
    -- the component's arrays
    obtain ⟨B0, hB31, hB0, hBn⟩ := hN.2.2.2.2.2.2.2.1
    have hx18 : fI w 18 p = B0 := hN.2.2.2.2.2.2.1.trans hB31
    obtain ⟨u1, hu1⟩ : ∃ u1, u1 = nA (nA w 114 6) 102 8 := ⟨_, rfl⟩
    have f1 : Fr [] w u1 := by rw [hu1]; exact ((Fr.refl [] w).snA).snA
    have W1 : WF p u1 := by rw [hu1]; exact (rb.1.snA 114 6).snA 102 8
    have hroom3 := Rm.room rb3 hR3 (k := 2) (n := 14) (by decide)
    have pz := rb.1.pz
    refine OUTb.nw (A0 := 2) (B0 := 14) (k := 24) (w' := u1) (cm' := fun Q X => ∀ u7 : CW, u7 = pI u1 19 p (w32 ((fI u1 19 p) + 1)) → pC_X0_either_42 p (wpC p (m + 18)) (fun v w => Q v w) (fun x w => X x w) s (fI w 11 p) (cz w + 1) 0 (fI w 18 p) 0 (cz w + 2) 1 u7) hR3 rb3 f1 W1 (by rw [hu1]; rfl) (by rw [hu1]; rfl) (by decide) (fun Q X hh => bC_X0_either_0 (fa ⟨⟨by decide, by omega, by show cu w + 6 ≤ mu w; omega⟩, fa (fa ⟨⟨by decide, by show cz w + 1 + 1 ≤ mz w; omega, by show cu w + 6 + 8 ≤ mu w; omega⟩, fa ?_⟩)⟩)) (fun rb4 c4 hR4 => ?_)
    · subst hu1
      exact hh
    refine OUTb.cw (T1 := []) (S1 := [19]) (k := 0) hR4 rb4 (pI u1 19 p (w32 ((fI u1 19 p) + 1))) ((Fr.refl _ _).spI (Or.inl (by simp))) ((PF.refl _ _ _).spI (Or.inl (by simp))) (rb4.1.spI _ _ _) (Int.le_of_eq rfl) (by decide) (fun Q X hh => hh) (fun r hr => by cases hr) (fun u2 eu2 rb5 c5 hR5 => ?_)
    refine OUTb.cc (cm' := cmG (Le p (m + 18) s (fI w 11 p) (cz w + 1) (fI w 18 p) (cz w + 2)) (fun Q X I => I 0 0 1 u2)) (fun Q X hh => bC_X0_either_42 (fun I cl => hh I cl)) ?_
    refine OUTb.kJV (F2 := fun v => ANe0 p (wpC p (m + 18)) s (fI w 11 p) (cz w + 1) (fI w 18 p) (cz w + 2) ((0 : Nat) : Int) 0 1 v) hR5 (OUT.nx1 (d := m + 6) (e := e + 3) rb5 (by rw [(FA 3 (by decide)).1]; omega) (hR5.le (by decide))) (fun Q X I l hh => l _ _ _ _ hh) (fun I QF cl kk => br1 rb3.f0 (br1 rfl kk)) (fun _ _ u4 σ4 rb6 hfr c6 hR6 => ?_) (fun hw pl σ4 D4 F4 => ?_)
    · have x32 : tI σ4 32 = o := ((c6.2.2.2.1 32 (by decide)).1.trans (FA 32 (by decide)).1).trans e32
      obtain ⟨σ5, O1, O2, O3, O4, O5, O6, O7, O8, O9, O10, run⟩ := sT_opens (d := e + 6) (q := np τ) (pl := tI τ 5) x32 (by omega)
      have g6 : ∀ f x, 10 ≤ f → tA σ4 f x = tA σ3 f x := fun f x hf => (c6.2.2.2.1 f (by simp only [List.mem_cons, List.not_mem_nil, or_false]; omega)).2 _
      have x17 : tA σ4 17 (np τ) = 6 := (g6 17 _ (by decide)).trans ((nd 17 _ (by decide)).trans k17)
      refine OUTb.jM (τ' := σ5) (F' := fun I _ => I (np τ) o σ5) hR6 rb6 O1 (fun I QF cl kk => ⟨qr, br0 (fun y => by have := y.1; omega) (bT_begins_600 ⟨qr, br1 x17 (run _ (zq_v (bT_begins_619 kk)))⟩)⟩) (fun rb7 hR7 => ?_)
      have cA : CF p [] [] [16, 17, 18, 19, 20, 21, 22, 23, 24, 25, 26] w τ w σ3 := ⟨Fr.refl _ _, PF.refl _ _ _, rb.1, FA, Int.le_of_eq (FA 5 (by decide)).1.symm, (FA 1 (by decide)).1⟩
      have cO : CF p [] [] [32, 33, 34, 35, 36, 37, 38, 39] u4 σ4 u4 σ5 := ⟨Fr.refl _ _, PF.refl _ _ _, rb6.1, O1, Int.le_of_eq (O1 5 (by decide)).1.symm, (O1 1 (by decide)).1⟩
      have cT : CF p [] [9, 10, 11, 12, 13, 14, 19] [2, 3, 4, 5, 6, 16, 17, 18, 19, 20, 21, 22, 23, 24, 25, 26, 32, 33, 34, 35, 36, 37, 38, 39] w τ u4 σ5 := ((((cA.mono rb.1 (fun r hr => by cases hr) (fun f hf => by cases hf) (by decide)).trans c4 (fun r hr => by cases hr) (fun f hf => by cases hf) (fun f hf => by cases hf)).trans c5 (fun r hr => by cases hr) (by decide) (fun f hf => by cases hf)).trans c6 (fun r hr => by cases hr) (by decide) (by decide)).trans cO (fun r hr => by cases hr) (fun f hf => by cases hf) (by decide)
      have g8 : ∀ f x, 10 ≤ f → (f < 32 ∨ 39 < f) → tA σ5 f x = tA σ3 f x := fun f x hf h2 => ((O1 f (by simp only [List.mem_cons, List.not_mem_nil, or_false]; omega)).2 _).trans (g6 f x hf)
      have eP5 : np σ5 = np τ + 1 := by rw [np_ft O1 (by decide), np_ft c6.2.2.2.1 (by decide)]; exact eP3
      have eR5 : nR σ5 = nR τ := by rw [nR_ft O1 (by decide), nR_ft c6.2.2.2.1 (by decide)]; exact eR3
      have U5 : UT τ σ5 o := ⟨fun f h1 h2 x hx => (g8 f x (by omega) (Or.inl (by omega))).trans (U3.1 f h1 h2 x hx), fun f h1 h2 x hx => ((O3 f h1 h2 x (by omega)).trans (g6 f x (by omega))).trans (U3.2.1 f h1 h2 x hx), fun x hx => (g8 40 x (by decide) (Or.inr (by decide))).trans (U3.2.2.1 x hx), fun x hx => ⟨(g8 29 x (by decide) (Or.inl (by decide))).trans (U3.2.2.2.1 x hx).1, (g8 30 x (by decide) (Or.inl (by decide))).trans (U3.2.2.2.1 x hx).2⟩, fun x hx => (g8 28 x (by decide) (Or.inl (by decide))).trans (U3.2.2.2.2 x hx)⟩
      have K5 : KR p u4 σ5 := hK.fr (T := []) rb.1 cT.1 cT.2.1 (fun r hr => by cases hr) (by decide) (by decide) cT.2.2.2.1 (by decide)
      have N5 : NmR p u4 σ5 := hN.on rb.1 cT
      have z17 : tA σ5 17 (np τ) = 6 := (O1 17 (by decide)).2 _ |>.trans x17
      have SLo : SLv σ5 o := ⟨np τ, O4, hnp, by rw [O5]; decide, by rw [O5]; decide, Or.inl O6, Or.inr z17⟩
      have w191 : fI u2 19 p = ((o + 1 : Nat) : Int) := by
        rw [eu2, fI_at, (c4.2.1 19 (by simp)).1, hwi]
        exact w32_k (by omega)
      have w194 : fI u4 19 p = ((o + 1 : Nat) : Int) := (c6.2.1 19 (by decide)).1.trans w191
      have w204 : fI u4 20 p = 0 := (cT.2.1 20 (by decide)).1.trans hmu
      have w184 : fI u4 18 p = B0 := (cT.2.1 18 (by decide)).1.trans hx18
      have P5 : PS p u4 σ5 (o + 1) := ⟨rb7, K5, N5, by rw [eP5, (O1 16 (by decide)).1, (c6.2.2.2.1 16 (by decide)).1, (G3 16 (by decide)).1, (G2 16 (by decide)).1]; exact eP.1, by
        have y1 : tI σ5 5 = tI σ4 5 := (O1 5 (by decide)).1
        have y2 : tI σ3 5 = tI τ 5 := (FA 5 (by decide)).1
        have y3 : tI σ3 5 + 1 ≤ tI σ4 5 := hfr
        rw [eP5]; omega, O2, by omega, w194, w204, fun k' hk' => by
        by_cases y : k' = o
        · rw [y]; exact SLo
        · exact (hsl k' (by omega)).on (by omega) U5 (hsq k' (by omega)), fun k' hk' => by
        by_cases y : k' = o
        · rw [y]; exact ⟨np τ, O4, by omega⟩
        · obtain ⟨q', a1, a2⟩ := hsq k' (by omega)
          exact ⟨q', by rw [U5.2.1 33 (by decide) (by decide) k' (by omega)]; exact a1, by omega⟩⟩
      have ta1 : tg u1 (cz w + 1) = 114 ∧ ln u1 (cz w + 1) = 6 ∧ tg u1 (cz w + 2) = 102 ∧ ln u1 (cz w + 2) = 8 := by
        rw [hu1]
        refine ⟨?_, ?_, if_pos rfl, if_pos rfl⟩
        · show (if cz w + 1 = cz w + 1 + 1 then 102 else (if cz w + 1 = cz w + 1 then 114 else _)) = 114
          rw [if_neg (by omega), if_pos rfl]
        · show (if cz w + 1 = cz w + 1 + 1 then 8 else (if cz w + 1 = cz w + 1 then 6 else _)) = 6
          rw [if_neg (by omega), if_pos rfl]
      have cz1 : cz u1 = cz w + 2 := by rw [hu1]; rfl
      have fr14 : Fr [p] u1 u4 := c5.1.trans c6.1
      have ta4 : tg u4 (cz w + 1) = 114 ∧ ln u4 (cz w + 1) = 6 ∧ tg u4 (cz w + 2) = 102 ∧ ln u4 (cz w + 2) = 8 := by
        have y1 := fr14.2.2.2.1 (cz w + 1) (by omega)
        have y2 := fr14.2.2.2.1 (cz w + 2) (by omega)
        rw [y1.1, y1.2, y2.1, y2.2]
        exact ta1
      have hI : EIC p (cz w + 1) (cz w + 2) (n' + 1) w τ s o B0 0 0 1 u4 σ5 (fun _ => 0) (fun _ _ => False) (fun _ _ => 0) := by
        refine ⟨⟨⟨fun _ => (g8 22 _ (by decide) (Or.inl (by decide))).trans ((nd 22 _ (by decide)).trans k22), fun z => by omega, fun j hj => by omega, fun z => by omega, fun j hj => by omega, fun j hj => by omega, fun z => by omega, fun j hj => by omega, fun j hj => by omega⟩, U5, eR5, by omega⟩, ⟨⟨z17, (g8 18 _ (by decide) (Or.inl (by decide))).trans ((nd 18 _ (by decide)).trans k18), (g8 23 _ (by decide) (Or.inl (by decide))).trans ((nd 23 _ (by decide)).trans k23), (g8 24 _ (by decide) (Or.inl (by decide))).trans ((nd 24 _ (by decide)).trans k24), (g8 25 _ (by decide) (Or.inl (by decide))).trans ((nd 25 _ (by decide)).trans k25)⟩, ⟨O4, O5, by rw [if_pos rfl]; exact O6, O7, ?_⟩, fun j hj => by omega⟩, ⟨by rw [nN_ft cT.2.2.2.1 (by decide) (by decide)]; exact ⟨Nat.le_refl _, fun k hk => Or.inl hk⟩, fun k _ => (cT.2.2.2.1 29 (by decide)).2 _, fun j hj => by omega⟩, fun z => by omega, ⟨Or.inr rfl, ⟨fun _ => rfl, fun _ => O10⟩, fun _ => ⟨fun j hj => by omega, fun j hj => by omega, fun k _ _ => ?_⟩⟩, ta4, cT.mono rb.1 (fun r hr => by cases hr) (by decide) (by decide)⟩
        · rw [O8, (c6.2.2.2.1 31 (by decide)).1, (FA 31 (by decide)).1]; exact hB31
        · unfold SnR; rw [eR5, (cT.2.2.2.1 30 (by decide)).2]
      have loop := ei_loop (b := b) (m := m) (x2 := fI w 11 p) (x5 := fI w 18 p) hs0 hs hb h hPT hM' (by omega : cz w < cz w + 1) (by omega : cz w + 1 < cz w + 2) ho6 e11 hB0 hx18 hB31 6 0 u4 σ5 _ _ _ _ _ rfl rb7 (by rw [pI_id w204]; exact P5) (by rw [w204]; rfl) (by rw [(cT.2.2.2.1 31 (by decide)).1]; exact hB31) hI (hR7.le (by decide))
      have zw : w32 ((tI σ5 32) - 1) = (o : Int) := by rw [O2]; exact open1 (by omega)
      have wan : ff_wanted σ5 = s := by
        unfold ff_wanted
        rw [zw, O4, if_neg (by rw [z17]; decide)]
        exact (g8 18 _ (by decide) (Or.inl (by decide))).trans ((nd 18 _ (by decide)).trans k18)
      refine OUTb.jS (OUTb.le (OUTb.kT (F' := ANe1 p (wpC p (m + 18)) s (fI w 11 p) (cz w + 1) (fI w 18 p) (cz w + 2) ((0 : Nat) : Int) 0 1 u4) (fun Q X I l hh => ?_) (OUTb.iT (F' := fun I _ => wpT (e + 8) 25 [ai s, ai (if o + 1 = 6 ∨ 0 = 6 then 1 else 0)] σ5 (zqI (fun v u => I v ((o + 1 : Nat) : Int) u) zno)) (fun I QF cl kk => ?_) loop)))
      · intro v1 h1 v2 h2 v3 h3
        have e1 : v1 = u4 := by rw [h1, hx18]; exact pI_id w184
        have e3 : v3 = u4 := by
          rw [h3, e1, h2]
          exact pI_id w204
        rw [e3]
        exact hh
      · refine cl _ _ _ (br1 rb7.f0 (br0 (by rw [O2]; omega) (fa ⟨SLo.wanted (by omega) O2, fa ?_⟩)))
        rw [wan, O2]
        have e7 : (if (((o + 1 : Nat) : Int) = 6) then (1 : Int) else 0) = (if o + 1 = 6 ∨ 0 = 6 then 1 else 0) := by
          by_cases y : o + 1 = 6
          · rw [if_pos (Or.inl y), if_pos (by omega)]
          · rw [if_neg (by omega), if_neg (by omega)]
        rw [e7]
        exact kk
    · -- a wrong token behind the sign
      have y32 : tI σ4 32 = o := ((F4 32 (by decide)).1.trans (FA 32 (by decide)).1).trans e32
      obtain ⟨σ5, O1, O2, O3, O4, O5, O6, O7, O8, O9, O10, run⟩ := sT_opens (d := e + 6) (q := np τ) (pl := tI τ 5) y32 (by omega)
      have x17 : tA σ4 17 (np τ) = 6 := ((F4 17 (by decide)).2 _).trans ((nd 17 _ (by decide)).trans k17)
      have y17 : tA σ5 17 (np τ) = 6 := ((O1 17 (by decide)).2 _).trans x17
      refine DD.jP (σ := σ5) (F' := fun I _ => I (np τ) o σ5) O1 (fun I QF cl kk => ⟨qr, br0 (fun y => by have := y.1; omega) (bT_begins_600 ⟨qr, br1 x17 (run _ (zq_v (bT_begins_619 kk)))⟩)⟩) ?_
      refine DD.jS ?_
      exact dI15 (o := o + 1) (R := nR τ) (D4.ft O1 (by decide)) (by rw [(O1 27 (by decide)).1, (F4 27 (by decide)).1, (FA 27 (by decide)).1]; exact hN.2.1) hN.2.2.1 O2 (by omega) (fun k' hk' => by
        have : k' = o := by omega
        subst this
        exact ⟨np τ, O4, hnp, by rw [O5]; decide, by rw [O5]; decide, Or.inl O6, Or.inr y17⟩) (fun _ => qr) (by omega)
  · exact OUTb.go (OUTb.thr rb (fun Q X hh => pk (needNoP e11 (if_neg hmz) hr1 hh)) (thM rb ⟨e16, hnp⟩ (by omega) (by omega) x26 z34 hmz))
end ZAlt
