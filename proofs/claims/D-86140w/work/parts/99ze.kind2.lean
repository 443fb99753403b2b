/-! a pattern of a kind, both -/
section ZKind2
variable {p b e d : Nat} {w : CW} {τ : TW}
theorem pl_kind {m n o : Nat} {s much : Int} (h : PS p w τ o) (hb : b ≤ cz w) (h2 : tI τ 3 = 2) (hs0 : 0 ≤ s) (hs : s < 3 + nK τ) (hrec : much = 0 → ∃ n', n = n' + 1 ∧ 3 * n' + 21 ≤ m + 18 ∧ PTH p e n' (o + 1)) (ho5 : much = 0 → o < 6) (hR : Rm 1800 w τ) : PLN p b e n (m + 20) w τ s much o := by
  obtain ⟨rb, hK, hN, e16, e5, e32, ho, hwi, hmu, hsl, hsq⟩ := id h
  have hnp : np τ < 1700 := by have := rb.rg; have : tI τ 5 = tI τ 5 := rfl; omega
  have hroom := Rm.room rb hR (k := 3) (n := 20) (by decide)
  have hr1 := Rm.room rb hR (k := 1) (n := 8) (by decide)
  have e11 : fI w 11 p = tI τ 5 := rb.pl
  have ty : fI w 10 p = 2 := rb.ty.trans h2
  have sg : ∀ c, ff_isSign c τ = 0 := fl_s (by omega)
  have wd : ∀ c, ff_isWord c τ = 0 := fl_w (by omega)
  have z6 : b6 τ = 0 := b6_0 (by omega) (sg _)
  have z13 : b13 τ = 0 := b13_0 (wd _) (wd _)
  have n34 : ¬ b34 s τ := by
    unfold b34
    rw [z6, z13, wd 10, h2]
    simp
  have x26 : b26 τ := Or.inr (Or.inr (Or.inr (Or.inr (Or.inl h2))))
  have e12 : fI w 12 p = tI τ 4 := rb.wd (Or.inr (Or.inl h2))
  have bgK : ∀ {Q : ZRes → TW → Prop}, pT_begins_209 (wpT (e + 7)) (fun v w => Q (.inl (some (ai v))) w) s much (tI τ 5) (b6 τ) (b13 τ) 0 (kfB τ (tI τ 4)) τ → wpT (e + 8) 25 [ai s, ai much] τ Q := fun hh => bg0 x26 (fun v34 hv => br1 h2 (sT_kindOf (d := e + 6) hK.2.2.1 hK.2.2.2.1 (by rw [hv.mpr n34]; exact hh)))
  have pk : ∀ {Q : ZRes → CW → Prop}, wpC p (m + 19) 29 [ar p, ai s, ai much] w (zqR (fun v u => Q (.inl (some (ar v))) u) (fun x u => Q (.inr x) u)) → wpC p (m + 20) 23 [ar p, ai s, ai much] w Q := by
    intro Q hh
    refine wC_X0_plain (Nat.zero_le _) (bC_X0_plain_0 (fa (br0 (by omega) ?_)))
    refine sR_isSign rb (by decide) (br1 (sg _) (br0 (by omega) ?_))
    exact sR_isSign rb (by decide) (br1 (sg _) (br1 ty hh))
  rcases kfB_rg τ (tI τ 4) with k4 | ⟨k, hk, hkk⟩
  · -- no such kind
    obtain ⟨σ', F, D, hf, run⟩ := bgF (e := e) (x1 := s) (x2 := much) (x3 := tI τ 5) (x8 := kfB τ (tI τ 4)) rb ⟨e16, hnp⟩ (k := 4) (by decide)
    refine OUTb.go (OUTb.thr rb (fun Q X hh => pk (wC_X0_kinded (Nat.zero_le _) (bC_X0_kinded_0 (sC_named hK ?_)))) (DD.jP (σ := σ') (S1 := [7, 8, 16, 17, 18, 19, 20, 21, 22, 23, 24, 25, 26]) (F' := fun I _ => I (-4) o σ') F (fun I QF cl kk => bgK (bT_begins_209 (br1 ⟨h2, k4⟩ (run _ kk)))) (DD.jF D hf (fun I QF cl k => k))))
    rw [e12, if_pos k4]
    exact fa (needNoP e11 (if_neg (fun y => y rfl)) hr1 hh)
  · have jK := hK.2.2.2.2.1 k hk
    have kne : kfB τ (tI τ 4) ≠ -4 := by omega
    have k0ne : kd w p k ≠ 0 := by have := jK.2.1; omega
    have k24 := KRs.k24 hK hk
    have nk24 : nK τ ≤ 24 := by have := hK.2.2.2.1; unfold nK; omega
    have e4 : (if kfB τ (fI w 12 p) = -4 then 0 else kd w p (kfB τ (fI w 12 p)).toNat) = kd w p k := by rw [e12, if_neg kne, hkk]; rfl
    -- the kinds fit, or not: v
    have kin : ∃ v : Int, (v = 0 ∨ v = 1) ∧ (v = 1 → 3 ≤ s) ∧ (∀ {Q : ZRes → CW → Prop}, pC_X0_kinded_64 p (wpC p (m + 18)) (fun v w => Q (.inl (some (ar v))) w) (fun x w => Q (.inr x) w) much (kd w p k) v p w → wpC p (m + 19) 29 [ar p, ai s, ai much] w Q) ∧ (v = 0 → ∀ {Q : Int → TW → Prop}, pT_begins_277 (wpT (e + 7)) Q s much (tI τ 5) (b6 τ) (b13 τ) (k : Int) τ → pT_begins_209 (wpT (e + 7)) Q s much (tI τ 5) (b6 τ) (b13 τ) 0 (kfB τ (tI τ 4)) τ) ∧ (v = 1 → ∀ {Q : Int → TW → Prop}, pT_begins_283 (wpT (e + 7)) Q s much (tI τ 5) (b6 τ) (b13 τ) (k : Int) τ → pT_begins_209 (wpT (e + 7)) Q s much (tI τ 5) (b6 τ) (b13 τ) 0 (kfB τ (tI τ 4)) τ) := by
      by_cases s3 : s < 3
      · refine ⟨0, Or.inl rfl, fun y => by omega, fun hh => wC_X0_kinded (Nat.zero_le _) (bC_X0_kinded_0 (sC_named hK ?_)), fun _ => fun hh => bT_begins_209 (br0 (fun y => kne y.2) (bT_begins_235 (br1 rfl (br1 h2 (br1 s3 (by rw [hkk]; exact hh)))))), fun y => by omega⟩
        rw [e4]
        exact fa (sC_needOk (by rw [if_pos k0ne]; decide) (sC_isKind (br1 (if_neg (fun y => y s3)) (bC_X0_kinded_63 hh))))
      · obtain ⟨j, hj⟩ : ∃ j : Nat, s = 3 + j := ⟨(s - 3).toNat, by omega⟩
        have hjn : j < nK τ := by omega
        have ej : w32 (s - 3) = (j : Int) := by rw [w32_s (by omega) (by omega)]; omega
        have jJ := hK.2.2.2.2.1 j hjn
        have cpre : ∀ {Q : ZRes → CW → Prop}, wpC p (m + 18) 83 [ar (kd w p k), ar (kd w p j)] w (zqI (fun v92 u91 =>
              (v92 = 0 →
                wpC p (m + 18) 31 [ar p, ai s] u91 (zqR (fun v95 u94 =>
                  (tg u94 v95 = 3) ∧
                  wpC p (m + 18) 83 [ar v95, ar (kd w p k)] u94 (zqI (fun v97 u96 =>
                    (v97 = 0 →
                      pC_X0_kinded_63 p (wpC p (m + 18)) (fun v w => Q (.inl (some (ar v))) w) (fun x w => Q (.inr x) w) much (kd w p k) p u96) ∧
                    (¬ (v97 = 0) →
                      pC_X0_kinded_59 p (wpC p (m + 18)) (fun v w => Q (.inl (some (ar v))) w) (fun x w => Q (.inr x) w) much (kd w p k) p u96)) zno)) zno)) ∧
              (¬ (v92 = 0) →
                pC_X0_kinded_59 p (wpC p (m + 18)) (fun v w => Q (.inl (some (ar v))) w) (fun x w => Q (.inr x) w) much (kd w p k) p u91)) zno) → wpC p (m + 19) 29 [ar p, ai s, ai much] w Q := by
          intro Q hh
          refine wC_X0_kinded (Nat.zero_le _) (bC_X0_kinded_0 (sC_named hK ?_))
          rw [e4]
          exact fa (sC_needOk (by rw [if_pos k0ne]; decide) (sC_isKind (br0 (by rw [if_pos s3]; decide) (sC_kindOf hK hj hjn ⟨jK.1, hh⟩))))
        have tpre : ∀ {Q : Int → TW → Prop}, ((ofB τ k j) = 0 → ((ofB τ j k) = 0 → pT_begins_277 (wpT (e + 7)) Q s much (tI τ 5) (b6 τ) (b13 τ) (k : Int) τ) ∧ (¬ ((ofB τ j k) = 0) → pT_begins_283 (wpT (e + 7)) Q s much (tI τ 5) (b6 τ) (b13 τ) (k : Int) τ)) ∧ (¬ ((ofB τ k j) = 0) → pT_begins_283 (wpT (e + 7)) Q s much (tI τ 5) (b6 τ) (b13 τ) (k : Int) τ) → pT_begins_209 (wpT (e + 7)) Q s much (tI τ 5) (b6 τ) (b13 τ) 0 (kfB τ (tI τ 4)) τ := by
          intro Q hh
          refine bT_begins_209 (br0 (fun y => kne y.2) (bT_begins_235 (br1 rfl (br1 h2 (br0 s3 ?_)))))
          rw [hkk, ej]
          refine sT_isOf (d := e + 6) hK.un hk ⟨fun y => ?_, fun y => hh.2 y⟩
          exact sT_isOf (d := e + 6) hK.un hjn ⟨fun y2 => (hh.1 y).1 y2, fun y2 => (hh.1 y).2 y2⟩
        by_cases a1 : ofB τ k j = 0
        · by_cases a2 : ofB τ j k = 0
          · refine ⟨0, Or.inl rfl, fun y => by omega, fun hh => cpre (sC_is hK rb.1 hk hjn (br1 a1 (sC_kindOf hK hj hjn ⟨jJ.1, sC_is hK rb.1 hjn hk (br1 a2 (bC_X0_kinded_63 hh))⟩))), fun _ => fun hh => tpre (br1 a1 (br1 a2 hh)), fun y => by omega⟩
          · refine ⟨1, Or.inr rfl, fun _ => by omega, fun hh => cpre (sC_is hK rb.1 hk hjn (br1 a1 (sC_kindOf hK hj hjn ⟨jJ.1, sC_is hK rb.1 hjn hk (br0 a2 (bC_X0_kinded_59 hh))⟩))), fun y => by omega, fun _ => fun hh => tpre (br1 a1 (br0 a2 hh))⟩
        · refine ⟨1, Or.inr rfl, fun _ => by omega, fun hh => cpre (sC_is hK rb.1 hk hjn (br0 a1 (bC_X0_kinded_59 hh))), fun y => by omega, fun _ => fun hh => tpre (br0 a1 hh)⟩
    obtain ⟨v, hv01, hv3, kC, kT0, kT1⟩ := kin
    have tgp : tg w p = 1 := rb.1.2.1
    rcases hv01 with hv | hv
    · -- it can't be of the sort
      subst hv
      obtain ⟨σ', F, D, hf, run⟩ := bgF (e := e) (x1 := s) (x2 := much) (x3 := tI τ 5) (x8 := (k : Int)) rb ⟨e16, hnp⟩ (k := 5) (by decide)
      exact OUTb.go (OUTb.thr rb (fun Q X hh => pk (kC (bC_X0_kinded_64 ⟨tgp, rb.needNo rfl hr1 hh⟩))) (DD.jP (σ := σ') (S1 := [7, 8, 16, 17, 18, 19, 20, 21, 22, 23, 24, 25, 26]) (F' := fun I _ => I (-4) o σ') F (fun I QF cl kk => bgK (kT0 rfl (bT_begins_277 (run _ kk)))) (DD.jF D hf (fun I QF cl k => k))))
    · subst hv
      have hs3 := hv3 rfl
      by_cases hmz : much = 0
      · subst hmz
        have ho6 := ho5 rfl
        have F1 := nwT_ft τ 5 s
        obtain ⟨k17, k18, k19, k20, k21, k22, k23, k24', k25, k26⟩ := nwT_new τ 5 s
        have U1 := UT.new (τ := τ) 5 s o
        have eP := nwT_np τ 5 s
        obtain ⟨σ1, hσ1⟩ : ∃ σ1, σ1 = nwT τ 5 s := ⟨_, rfl⟩
        rw [← hσ1] at F1 k17 k18 k19 k20 k21 k22 k23 k24' k25 k26 U1 eP
        have qr : (0 : Int) ≤ np τ ∧ (np τ : Int) < 1700 := by omega
        refine OUTb.go (OUTb.cc (fun Q X hh => pk (kC (bC_X0_kinded_64 ⟨tgp, sC_needOk (by decide) (fa (sC_needOk (by decide) hh))⟩))) (OUTb.jM (τ' := σ1) (F' := fun I _ => pT_begins_450 (wpT (e + 7)) (fun v u => zqI (fun v u => I v o u) zno (.inl (some (ai v))) u) (tI τ 5) (b6 τ) (k : Int) (np τ) σ1) hR rb F1 (fun I QF cl kk => bgK (kT1 rfl (bg283 ⟨e16, hnp⟩ rb.f0 (by omega) (kd := 5) (by rw [z6, z13, if_pos rfl, if_pos rfl, if_neg (by omega), if_pos h2]) (by rw [← hσ1]; exact kk)))) (fun rb1 hR1 => ?_)))
        refine OUTb.jW (S1 := [19]) hR1 rb1 (sA σ1 19 (np τ) k) ((FT.refl _ _).ssA (by decide)) (fun I QF kk => bT_begins_450 (fa ⟨qr, fun u hu => kk u (by rw [hu, if_pos ((F1 3 (by decide)).1.trans h2)])⟩)) (fun σ2 e2 rb2 G2 hR2 => ?_)
        refine OUTb.jW (S1 := [21]) hR2 rb2 (sA σ2 21 (np τ) 0) ((FT.refl _ _).ssA (by decide)) (fun I QF kk => fa ⟨qr, fun u hu => kk u (by rw [hu, if_neg (by rw [(G2 3 (by decide)).1, (F1 3 (by decide)).1]; omega)])⟩) (fun σ3 e3 rb3 G3 hR3 => ?_)
        have FA : FT [16, 17, 18, 19, 20, 21, 22, 23, 24, 25, 26] τ σ3 := (F1.trans (G2.mono (by decide))).trans (G3.mono (by decide))
        have U3 : UT τ σ3 o := (U1.wr (by decide) e2).wr (by decide) e3
        have nd : ∀ f x : Nat, (f ≠ 19 ∧ f ≠ 21) → tA σ3 f x = tA σ1 f x := fun f x hf => by
          rw [e3, tA_sA, if_neg (fun y => hf.2 y.1), e2, tA_sA, if_neg (fun y => hf.1 y.1)]
        have eP3 : np σ3 = np τ + 1 := by rw [np_ft G3 (by decide), np_ft G2 (by decide)]; exact eP.2
        have eR3 : nR σ3 = nR τ := nR_ft FA (by decide)
        have s33 : tI σ3 3 = 2 := (FA 3 (by decide)).1.trans h2
        have v17 : tA σ3 17 (np τ) = 5 := (nd 17 _ (by decide)).trans k17
        have v19 : tA σ3 19 (np τ) = k := by rw [(G3 19 (by decide)).2, e2, tA_sA, if_pos ⟨rfl, rfl⟩]
        have cA : CF p [] [] [16, 17, 18, 19, 20, 21, 22, 23, 24, 25, 26] w τ w σ3 := ⟨Fr.refl _ _, PF.refl _ _ _, rb.1, FA, Int.le_of_eq (FA 5 (by decide)).1.symm, (FA 1 (by decide)).1⟩
        refine OUTb.jBV hR3 (OUT.nx1 (d := m + 6) (e := e + 3) rb3 (by omega) (hR3.le (by decide))) (fun Q X hh => hh) (fun I QF cl kk => br1 rb3.f0 (br1 z6 kk)) (fun _ _ u σ rb4 hfr c4 hR4 => ?_) (fun hw pl σ D F => ?_)
        · have g4 : ∀ f x, 10 ≤ f → tA σ f x = tA σ3 f x := fun f x hf => (c4.2.2.2.1 f (by simp only [List.mem_cons, List.not_mem_nil, or_false]; omega)).2 _
          have ct : CF p [] [9, 10, 11, 12, 13, 14] [2, 3, 4, 5, 6, 16, 17, 18, 19, 20, 21, 22, 23, 24, 25, 26] w τ u σ := (cA.mono rb.1 (fun r hr => by cases hr) (fun f hf => by cases hf) (by decide)).trans c4 (fun r hr => by cases hr) (fun f hf => hf) (by decide)
          have eP4 : np σ = np τ + 1 := by rw [np_ft c4.2.2.2.1 (by decide)]; exact eP3
          have eR4 : nR σ = nR τ := (nR_ft c4.2.2.2.1 (by decide)).trans eR3
          have e16s : tI σ 16 = np σ := by rw [eP4, (c4.2.2.2.1 16 (by decide)).1, (G3 16 (by decide)).1, (G2 16 (by decide)).1]; exact eP.1
          have e55 : tI σ3 5 = tI τ 5 := (FA 5 (by decide)).1
          have e5s : (np σ : Int) ≤ tI σ 5 := by rw [eP4]; omega
          have U4 : UT τ σ o := U3.trans (UT.ft c4.2.2.2.1 (by decide) o) (by omega) eR3
          have x17 : tA σ 17 (np τ) = 5 := (g4 17 _ (by decide)).trans v17
          have x18 : tA σ 18 (np τ) = s := (g4 18 _ (by decide)).trans ((nd 18 _ (by decide)).trans k18)
          have x19 : tA σ 19 (np τ) = k := (g4 19 _ (by decide)).trans v19
          have x22 : tA σ 22 (np τ) = -4 := (g4 22 _ (by decide)).trans ((nd 22 _ (by decide)).trans k22)
          have x23 : tA σ 23 (np τ) = -4 := (g4 23 _ (by decide)).trans ((nd 23 _ (by decide)).trans k23)
          have x24 : tA σ 24 (np τ) = -4 := (g4 24 _ (by decide)).trans ((nd 24 _ (by decide)).trans k24')
          have x25 : tA σ 25 (np τ) = -4 := (g4 25 _ (by decide)).trans ((nd 25 _ (by decide)).trans k25)
          have x26' : tA σ 26 (np τ) = 1 := (g4 26 _ (by decide)).trans ((nd 26 _ (by decide)).trans k26)
          have x32 : tI σ 32 = o := by rw [(c4.2.2.2.1 32 (by decide)).1, (FA 32 (by decide)).1]; exact e32
          have Ku : KR p u σ := hK.fr (T := []) rb.1 ct.1 ct.2.1 (fun r hr => by cases hr) (by decide) (by decide) ct.2.2.2.1 (by decide)
          have nKs : nK σ = nK τ := by unfold nK; rw [(ct.2.2.2.1 10 (by decide)).1]
          have kdu : kd u p k = kd w p k := kd_fr2 hK.1 ct.1 (ct.2.1 0 (by decide)).2 (by have := hK.1.2.2.1; have : p < fR w 0 p := this; simp; omega) k
          have jU := Ku.2.2.2.2.1 k (by omega)
          have hr4 := Rm.room rb4 hR4 (k := 2) (n := 12) (by decide)
          have hr4' := Rm.room rb4 hR4 (k := 1) (n := 8) (by decide)
          have e11u : fI u 11 p = tI σ 5 := rb4.pl
          by_cases s40 : ff_isSign 40 σ = 0
          · -- no parts
            obtain ⟨u5, hu5⟩ : ∃ u5, u5 = pR (pR (pI (nA (nO u 8 3) 114 0) 68 (cz u + 1) (-1)) 71 (cz u + 1) (kd w p k)) 72 (cz u + 1) (cz u + 2) := ⟨_, rfl⟩
            have f5 : Fr [] u u5 := by rw [hu5]; exact (((((Fr.refl [] u).snO).snA).spI (Or.inr (by omega))).spR (Or.inr (by omega))).spR (Or.inr (by omega))
            have W5 : WF p u5 := by rw [hu5]; exact ((((rb4.1.snO 8 3).snA 114 0).spI _ _ _).spR _ _ _).spR _ _ _
            refine OUTb.nw (A0 := 2) (B0 := 3) (k := 13) (w' := u5) hR4 rb4 f5 W5 (by rw [hu5]; rfl) (by rw [hu5]; rfl) (by decide) (fun Q X hh => sR_isSign rb4 (by decide) (br1 s40 ⟨⟨by omega, by omega⟩, fa ⟨⟨⟨by decide, by decide⟩, (by first | omega | (simp [fI_pI, fR_pI, aI_pI, aR_pI, tg_pI, ln_pI, cz_pI, cu_pI, mz_pI, mu_pI, sr_pI, fI_pR, fR_pR, aI_pR, aR_pR, tg_pR, ln_pR, cz_pR, cu_pR, mz_pR, mu_pR, sr_pR, fI_qI, fR_qI, aI_qI, aR_qI, tg_qI, ln_qI, cz_qI, cu_qI, mz_qI, mu_qI, sr_qI, fI_qR, fR_qR, aI_qR, aR_qR, tg_qR, ln_qR, cz_qR, cu_qR, mz_qR, mu_qR, sr_qR, fI_nO, fR_nO, aI_nO, aR_nO, tg_nO, ln_nO, cz_nO, cu_nO, mz_nO, mu_nO, sr_nO, fI_nA, fR_nA, aI_nA, aR_nA, tg_nA, ln_nA, cz_nA, cu_nA, mz_nA, mu_nA, sr_nA, Nat.reduceEqDiff, Nat.reduceEqDiff, Nat.left_eq_add, Nat.add_eq_left, Nat.add_left_cancel_iff, false_and, true_and, and_true, and_false, if_true, if_false, ite_true, ite_false, reduceIte]; done) | (simp [fI_pI, fR_pI, aI_pI, aR_pI, tg_pI, ln_pI, cz_pI, cu_pI, mz_pI, mu_pI, sr_pI, fI_pR, fR_pR, aI_pR, aR_pR, tg_pR, ln_pR, cz_pR, cu_pR, mz_pR, mu_pR, sr_pR, fI_qI, fR_qI, aI_qI, aR_qI, tg_qI, ln_qI, cz_qI, cu_qI, mz_qI, mu_qI, sr_qI, fI_qR, fR_qR, aI_qR, aR_qR, tg_qR, ln_qR, cz_qR, cu_qR, mz_qR, mu_qR, sr_qR, fI_nO, fR_nO, aI_nO, aR_nO, tg_nO, ln_nO, cz_nO, cu_nO, mz_nO, mu_nO, sr_nO, fI_nA, fR_nA, aI_nA, aR_nA, tg_nA, ln_nA, cz_nA, cu_nA, mz_nA, mu_nA, sr_nA, Nat.reduceEqDiff, Nat.reduceEqDiff, Nat.left_eq_add, Nat.add_eq_left, Nat.add_left_cancel_iff, false_and, true_and, and_true, and_false, if_true, if_false, ite_true, ite_false, reduceIte]; omega)), (by first | omega | (simp [fI_pI, fR_pI, aI_pI, aR_pI, tg_pI, ln_pI, cz_pI, cu_pI, mz_pI, mu_pI, sr_pI, fI_pR, fR_pR, aI_pR, aR_pR, tg_pR, ln_pR, cz_pR, cu_pR, mz_pR, mu_pR, sr_pR, fI_qI, fR_qI, aI_qI, aR_qI, tg_qI, ln_qI, cz_qI, cu_qI, mz_qI, mu_qI, sr_qI, fI_qR, fR_qR, aI_qR, aR_qR, tg_qR, ln_qR, cz_qR, cu_qR, mz_qR, mu_qR, sr_qR, fI_nO, fR_nO, aI_nO, aR_nO, tg_nO, ln_nO, cz_nO, cu_nO, mz_nO, mu_nO, sr_nO, fI_nA, fR_nA, aI_nA, aR_nA, tg_nA, ln_nA, cz_nA, cu_nA, mz_nA, mu_nA, sr_nA, Nat.reduceEqDiff, Nat.reduceEqDiff, Nat.left_eq_add, Nat.add_eq_left, Nat.add_left_cancel_iff, false_and, true_and, and_true, and_false, if_true, if_false, ite_true, ite_false, reduceIte]; done) | (simp [fI_pI, fR_pI, aI_pI, aR_pI, tg_pI, ln_pI, cz_pI, cu_pI, mz_pI, mu_pI, sr_pI, fI_pR, fR_pR, aI_pR, aR_pR, tg_pR, ln_pR, cz_pR, cu_pR, mz_pR, mu_pR, sr_pR, fI_qI, fR_qI, aI_qI, aR_qI, tg_qI, ln_qI, cz_qI, cu_qI, mz_qI, mu_qI, sr_qI, fI_qR, fR_qR, aI_qR, aR_qR, tg_qR, ln_qR, cz_qR, cu_qR, mz_qR, mu_qR, sr_qR, fI_nO, fR_nO, aI_nO, aR_nO, tg_nO, ln_nO, cz_nO, cu_nO, mz_nO, mu_nO, sr_nO, fI_nA, fR_nA, aI_nA, aR_nA, tg_nA, ln_nA, cz_nA, cu_nA, mz_nA, mu_nA, sr_nA, Nat.reduceEqDiff, Nat.reduceEqDiff, Nat.left_eq_add, Nat.add_eq_left, Nat.add_left_cancel_iff, false_and, true_and, and_true, and_false, if_true, if_false, ite_true, ite_false, reduceIte]; omega))⟩, fa (sC_kinded (d := m + 15) (Or.inr rfl) hu5 hh)⟩⟩)) (fun rb5 c5 hR5 => ?_)
            refine OUTb.jT (F' := fun I _ => I (np τ) o σ) (fun I QF cl kk => ⟨qr, br0 (fun y => y.2.2 s40) (bT_begins_600 ⟨qr, br0 (by rw [x17]; decide) (bT_begins_619 kk)⟩)⟩) (OUTb.jR (v := cz u + 1) (q := np τ) rb5 ⟨rfl, PN.leaf (S := [9, 10, 11, 12, 13, 14]) (S' := [2, 3, 4, 5, 6, 16, 17, 18, 19, 20, 21, 22, 23, 24, 25, 26]) h (ct.trans c5 (fun r hr => by cases hr) (fun f hf => by cases hf) (fun f hf => by cases hf)) rb5 eP4 e16s e5s U4 x18 x23 x24 x25 x26' (by have := ct.1.1; omega) (by rw [hu5]; exact fI_at _ _ _ _) (Or.inr (Or.inr (Or.inr (Or.inr (Or.inr ⟨x17, by rw [hu5]; simp [fI_pI, fR_pI, aI_pI, aR_pI, tg_pI, ln_pI, cz_pI, cu_pI, mz_pI, mu_pI, sr_pI, fI_pR, fR_pR, aI_pR, aR_pR, tg_pR, ln_pR, cz_pR, cu_pR, mz_pR, mu_pR, sr_pR, fI_qI, fR_qI, aI_qI, aR_qI, tg_qI, ln_qI, cz_qI, cu_qI, mz_qI, mu_qI, sr_qI, fI_qR, fR_qR, aI_qR, aR_qR, tg_qR, ln_qR, cz_qR, cu_qR, mz_qR, mu_qR, sr_qR, fI_nO, fR_nO, aI_nO, aR_nO, tg_nO, ln_nO, cz_nO, cu_nO, mz_nO, mu_nO, sr_nO, fI_nA, fR_nA, aI_nA, aR_nA, tg_nA, ln_nA, cz_nA, cu_nA, mz_nA, mu_nA, sr_nA, Nat.reduceEqDiff, Nat.reduceEqDiff, Nat.left_eq_add, Nat.add_eq_left, Nat.add_left_cancel_iff, false_and, true_and, and_true, and_false, if_true, if_false, ite_true, ite_false, reduceIte], hs3, x22, k, x19, by omega, ?_, ?_⟩)))))⟩ (fun Q X hh => hh) (fun I QF cl kk => gIo x32 kk))
            · have x71 : fR u5 71 (cz u + 1) = kd w p k := by rw [hu5, fR_of _ _ _ _ (by decide), fR_at]
              rw [x71, ← kdu]
              exact (kd_fr2 Ku.1 f5 (PF.of (S := []) f5 rb4.1.pz (by simp) 0 (by simp)).2 (by simp) k).symm
            · rw [hu5, fR_at]
              exact ⟨by simp [fI_pI, fR_pI, aI_pI, aR_pI, tg_pI, ln_pI, cz_pI, cu_pI, mz_pI, mu_pI, sr_pI, fI_pR, fR_pR, aI_pR, aR_pR, tg_pR, ln_pR, cz_pR, cu_pR, mz_pR, mu_pR, sr_pR, fI_qI, fR_qI, aI_qI, aR_qI, tg_qI, ln_qI, cz_qI, cu_qI, mz_qI, mu_qI, sr_qI, fI_qR, fR_qR, aI_qR, aR_qR, tg_qR, ln_qR, cz_qR, cu_qR, mz_qR, mu_qR, sr_qR, fI_nO, fR_nO, aI_nO, aR_nO, tg_nO, ln_nO, cz_nO, cu_nO, mz_nO, mu_nO, sr_nO, fI_nA, fR_nA, aI_nA, aR_nA, tg_nA, ln_nA, cz_nA, cu_nA, mz_nA, mu_nA, sr_nA, Nat.reduceEqDiff, Nat.reduceEqDiff, Nat.left_eq_add, Nat.add_eq_left, Nat.add_left_cancel_iff, false_and, true_and, and_true, and_false, if_true, if_false, ite_true, ite_false, reduceIte], by simp [fI_pI, fR_pI, aI_pI, aR_pI, tg_pI, ln_pI, cz_pI, cu_pI, mz_pI, mu_pI, sr_pI, fI_pR, fR_pR, aI_pR, aR_pR, tg_pR, ln_pR, cz_pR, cu_pR, mz_pR, mu_pR, sr_pR, fI_qI, fR_qI, aI_qI, aR_qI, tg_qI, ln_qI, cz_qI, cu_qI, mz_qI, mu_qI, sr_qI, fI_qR, fR_qR, aI_qR, aR_qR, tg_qR, ln_qR, cz_qR, cu_qR, mz_qR, mu_qR, sr_qR, fI_nO, fR_nO, aI_nO, aR_nO, tg_nO, ln_nO, cz_nO, cu_nO, mz_nO, mu_nO, sr_nO, fI_nA, fR_nA, aI_nA, aR_nA, tg_nA, ln_nA, cz_nA, cu_nA, mz_nA, mu_nA, sr_nA, Nat.reduceEqDiff, Nat.reduceEqDiff, Nat.left_eq_add, Nat.add_eq_left, Nat.add_left_cancel_iff, false_and, true_and, and_true, and_false, if_true, if_false, ite_true, ite_false, reduceIte], by have := ct.1.1; omega⟩
          · -- its parts
            have sv := (sg_1 s40).2.1
            obtain ⟨many, hmany⟩ : ∃ many : Nat, tA σ 14 k = many := ⟨(tA σ 14 k).toNat, by have : tA σ 14 k = tA σ 14 k := rfl; have := jU.2.2.2.2.2.2.1; omega⟩
            have hm4 : many ≤ 4 := by have : tA σ 14 k = tA σ 14 k := rfl; have := jU.2.2.2.2.2.2.2.1; omega
            have f42 : fI u 42 (kd w p k) = many := by rw [← kdu]; exact jU.2.2.2.2.2.1.trans hmany
            have tKd : tg u (kd w p k) = 3 := by rw [← kdu]; exact jU.1
            have tgu : tg u p = 1 := rb4.1.2.1
            rcases Nat.eq_zero_or_pos many with hz | hpos
            · -- it has none
              obtain ⟨σ5, ⟨q1, q2, q3⟩, run⟩ := RB.fails (e := e + 6) (pl := tI σ 5) rb4 (k := 6) (by decide)
              exact OUTb.thr rb4 (fun Q X hh => sR_isSign rb4 (by decide) (br0 s40 ⟨by rw [tKd]; decide, fa (rb4.needNo (if_neg (by rw [f42, hz]; decide)) hr4' hh)⟩)) (DD.jP (σ := σ5) (S1 := [7, 8]) (F' := fun I _ => I (np τ) o σ5) q1 (fun I QF cl kk => ⟨qr, br1 ⟨x17, rb4.f0, s40⟩ ⟨by omega, br1 (by rw [hmany, hz]; rfl) (run _ (zq_v (bT_begins_619 kk)))⟩⟩) (DD.jF q2 q3 (fun I QF cl k => k)))
            · obtain ⟨n', hn', hM', hPT⟩ := hrec rfl
              subst hn'
              obtain ⟨u1, hu1⟩ : ∃ u1, u1 = nA u 114 (Int.toNat (fI u 42 (kd w p k))) := ⟨_, rfl⟩
              have htn : Int.toNat (fI u 42 (kd w p k)) = many := by rw [f42]; rfl
              have f1 : Fr [] u u1 := by rw [hu1]; exact (Fr.refl [] u).snA
              have W1 : WF p u1 := by rw [hu1]; exact rb4.1.snA _ _
              have cz1 : cz u1 = cz u + 1 := by rw [hu1]; rfl
              have hz4 := rb4.1.pz
              have czw := ct.1.1
              have kz := hK.1.2.2.2.2
              refine OUTb.nw (A0 := 1) (B0 := many) (k := 9) (w' := u1) hR4 rb4 f1 W1 cz1 (by rw [hu1]; show cu u + Int.toNat (fI u 42 (kd w p k)) = _; rw [htn]) (by omega) (fun Q X hh => sR_isSign rb4 (by decide) (br0 s40 ⟨by rw [tKd]; decide, fa (sC_needOk (by rw [if_pos (by rw [f42]; omega)]; decide) ⟨by rw [tKd]; decide, ⟨⟨by rw [f42]; omega, by rw [f42]; omega⟩, by omega, by rw [htn]; omega⟩, fa hh⟩)⟩)) (fun rb5 c5 hR5 => ?_)
              rw [← hu1]
              have w19 : fI u1 19 p = o := by rw [(c5.2.1 19 (by simp)).1, (ct.2.1 19 (by decide)).1]; exact hwi
              refine OUTb.cw (T1 := []) (S1 := [19]) (k := 0) hR5 rb5 (pI u1 19 p (w32 ((fI u1 19 p) + 1))) ((Fr.refl _ _).spI (Or.inl (by simp))) ((PF.refl _ _ _).spI (Or.inl (by simp))) (rb5.1.spI _ _ _) (Int.le_of_eq rfl) (by decide) (fun Q X hh => hh) (fun r hr => by cases hr) (fun u2 eu2 rb6 c6 hR6 => ?_)
              have tK2 : tg u2 (kd w p k) = 3 := by rw [eu2]; show tg u1 _ = 3; rw [(f1.2.2.2.1 _ (rb4.1.le (by rw [tKd]; decide))).1]; exact tKd
              have oK1 := f1.2.2.2.2 (kd w p k) (rb4.1.le (by rw [tKd]; decide)) (by simp)
              have f422 : fI u2 42 (kd w p k) = many := by rw [eu2]; rw [fI_of _ _ _ _ (by decide), ob.efI oK1]; exact f42
              have tgu2 : tg u2 p = 1 := rb6.1.2.1
              refine OUTb.cc (cm' := cmG (Lk p (m + 18) (kd w p k) (cz u + 1)) (fun Q X I => I 0 u2)) (fun Q X hh I cl => hh I cl) ?_
              refine OUTb.kT (F' := fun Q X I => kbC p (wpC p (m + 18)) (fun v w => Q v w) (fun x w => X x w) (kd w p k) (cz u + 1) I 0 u2) (fun Q X I l hh => l _ _ hh) ?_
              refine OUTb.kJV hR6 (OUT.nx1 (d := m + 6) (e := e + 3) rb6 (by omega) (hR6.le (by decide))) (fun Q X I l hh => ⟨by rw [tK2]; decide, br0 (by rw [f422]; omega) (br1 rfl (bC_X0_kinded_185 (bC_X0_kinded_190 ⟨tgu2, sC_needOk (by decide) hh⟩)))⟩) (fun I QF cl kk => ⟨qr, br1 ⟨x17, rb4.f0, s40⟩ ⟨by omega, br0 (by rw [hmany]; omega) kk⟩⟩) (fun _ _ u3 σ4 rb7 hfr7 c7 hR7 => ?_) (fun hw pl σ4 D4 F4 => ?_)
              · have y32 : tI σ4 32 = o := (c7.2.2.2.1 32 (by decide)).1.trans x32
                obtain ⟨σ5, O1, O2, O3, O4, O5, O6, O7, O8, O9, O10, run⟩ := sT_opens (d := e + 6) (q := np τ) (pl := tI τ 5) y32 (by omega)
                refine OUTb.jM (τ' := σ5) (F' := fun I _ => I (np τ) o σ5) hR7 rb7 O1 (fun I QF cl kk => run _ (zq_v (bT_begins_619 kk))) (fun rb8 hR8 => ?_)
                have g7 : ∀ f x, 10 ≤ f → tA σ4 f x = tA σ f x := fun f x hf => (c7.2.2.2.1 f (by simp only [List.mem_cons, List.not_mem_nil, or_false]; omega)).2 _
                have g8 : ∀ f x, 10 ≤ f → (f < 32 ∨ 39 < f) → tA σ5 f x = tA σ f x := fun f x hf h2 => ((O1 f (by simp only [List.mem_cons, List.not_mem_nil, or_false]; omega)).2 _).trans (g7 f x hf)
                have c57 : CF p [] [9, 10, 11, 12, 13, 14, 19] [2, 3, 4, 5, 6] u σ u3 σ4 := ((c5.mono rb4.1 (fun r hr => by cases hr) (fun f hf => by cases hf) (fun f hf => by cases hf)).trans c6 (fun r hr => by cases hr) (by decide) (fun f hf => by cases hf)).trans c7 (fun r hr => by cases hr) (by decide) (by decide)
                have cO : CF p [] [] [32, 33, 34, 35, 36, 37, 38, 39] u3 σ4 u3 σ5 := ⟨Fr.refl _ _, PF.refl _ _ _, rb7.1, O1, Int.le_of_eq (O1 5 (by decide)).1.symm, (O1 1 (by decide)).1⟩
                have cT : CF p [] [9, 10, 11, 12, 13, 14, 19] [2, 3, 4, 5, 6, 16, 17, 18, 19, 20, 21, 22, 23, 24, 25, 26, 32, 33, 34, 35, 36, 37, 38, 39] w τ u3 σ5 := ((ct.mono rb.1 (fun r hr => by cases hr) (by decide) (by decide)).trans c57 (fun r hr => by cases hr) (by decide) (by decide)).trans cO (fun r hr => by cases hr) (fun f hf => by cases hf) (by decide)
                have eP5 : np σ5 = np σ := by rw [np_ft O1 (by decide), np_ft c57.2.2.2.1 (by decide)]
                have eR5 : nR σ5 = nR τ := by rw [nR_ft O1 (by decide), nR_ft c57.2.2.2.1 (by decide)]; exact eR4
                have U5 : UT τ σ5 o := ⟨fun f h1 h2 x hx => (g8 f x (by omega) (Or.inl (by omega))).trans (U4.1 f h1 h2 x hx), fun f h1 h2 x hx => ((O3 f h1 h2 x (by omega)).trans (g7 f x (by omega))).trans (U4.2.1 f h1 h2 x hx), fun x hx => (g8 40 x (by decide) (Or.inr (by decide))).trans (U4.2.2.1 x hx), fun x hx => ⟨(g8 29 x (by decide) (Or.inl (by decide))).trans (U4.2.2.2.1 x hx).1, (g8 30 x (by decide) (Or.inl (by decide))).trans (U4.2.2.2.1 x hx).2⟩, fun x hx => (g8 28 x (by decide) (Or.inl (by decide))).trans (U4.2.2.2.2 x hx)⟩
                have K5 : KR p u3 σ5 := hK.fr (T := []) rb.1 cT.1 cT.2.1 (fun r hr => by cases hr) (by decide) (by decide) cT.2.2.2.1 (by decide)
                have N5 : NmR p u3 σ5 := (hN.on rb.1 ct).on rb4.1 c57 |>.ft O1 (by decide) |>.1
                have z17 : tA σ5 17 (np τ) = 5 := (g8 17 _ (by decide) (Or.inl (by decide))).trans x17
                have z18 : tA σ5 18 (np τ) = s := (g8 18 _ (by decide) (Or.inl (by decide))).trans x18
                have z19 : tA σ5 19 (np τ) = k := (g8 19 _ (by decide) (Or.inl (by decide))).trans x19
                have z14 : tA σ5 14 k = many := (g8 14 _ (by decide) (Or.inl (by decide))).trans hmany
                have SLo : SLv σ5 o := ⟨np τ, O4, hnp, by rw [O5]; decide, by rw [O5]; decide, Or.inl O6, Or.inl ⟨z17, k, z19, k24, by rw [O5]; decide⟩⟩
                have f5s : tI σ5 5 = tI σ4 5 := (O1 5 (by decide)).1
                have w193 : fI u3 19 p = ((o + 1 : Nat) : Int) := by rw [(c7.2.1 19 (by decide)).1, eu2, fI_at, w19]; exact w32_k (by omega)
                have w203 : fI u3 20 p = 0 := by rw [(cT.2.1 20 (by decide)).1]; exact hmu
                have P5 : PS p u3 σ5 (o + 1) := ⟨rb8, K5, N5, by rw [eP5, (O1 16 (by decide)).1, (c57.2.2.2.1 16 (by decide)).1]; exact e16s, by rw [eP5, f5s]; have z := c57.2.2.2.2.1; have z2 : tI σ4 5 = tI σ4 5 := rfl; have z3 : tI σ 5 = tI σ 5 := rfl; omega, O2, by omega, w193, w203, fun k' hk' => by
                  by_cases y : k' = o
                  · rw [y]; exact SLo
                  · exact (hsl k' (by omega)).on (by omega) U5 (hsq k' (by omega)), fun k' hk' => by
                  by_cases y : k' = o
                  · rw [y]; exact ⟨np τ, O4, by omega⟩
                  · obtain ⟨q', a1, a2⟩ := hsq k' (by omega)
                    exact ⟨q', by rw [U5.2.1 33 (by decide) (by decide) k' (by omega)]; exact a1, by omega⟩⟩
                have kd5 : kd u3 p k = kd w p k := kd_fr2 hK.1 cT.1 (cT.2.1 0 (by decide)).2 (by have := hK.1.2.2.1; have : p < fR w 0 p := this; simp; omega) k
                have ta1 : tg u1 (cz u + 1) = 114 ∧ ln u1 (cz u + 1) = many := by rw [hu1]; exact ⟨if_pos rfl, by rw [← htn]; exact if_pos rfl⟩
                have fr13 : Fr [p] u1 u3 := c6.1.trans c7.1
                have ta3 : tg u3 (cz u + 1) = 114 ∧ ln u3 (cz u + 1) = many := by
                  have := fr13.2.2.2.1 (cz u + 1) (by omega)
                  rw [this.1, this.2]
                  exact ta1
                have hI : KIV p (cz u + 1) (n' + 1) w τ s o k (kd w p k) many 0 u3 σ5 (fun _ => 0) (fun _ _ => False) (fun _ _ => 0) := by
                  refine ⟨P5, ⟨fun _ => (g8 22 _ (by decide) (Or.inl (by decide))).trans x22, fun z => by omega, fun j hj => by omega, fun z => by omega, fun j hj => by omega, fun j hj => by omega, fun z => by omega, fun j hj => by omega, fun j hj => by omega⟩, fun j hj => by omega, U5, eR5, by omega, ⟨z17, z18, z19, (g8 23 _ (by decide) (Or.inl (by decide))).trans x23, (g8 24 _ (by decide) (Or.inl (by decide))).trans x24, (g8 25 _ (by decide) (Or.inl (by decide))).trans x25⟩, ⟨O4, O5, by rw [if_pos rfl]; exact O6⟩, fun j hj => by omega, ?_, ⟨by unfold nK at hk ⊢; rw [(cT.2.2.2.1 10 (by decide)).1]; exact hk, kd5.symm, z14, hm4⟩, ta3, cT.mono rb.1 (fun r hr => by cases hr) (by decide) (by decide)⟩
                  exact (BN.ft cT.2.2.2.1 (by decide)).congr (fun x => ⟨fun y => y.elim, fun ⟨j, hj, _⟩ => by omega⟩)
                have loop := kd_loop (b := b) (m := m) hs3 hb h hPT hM' (by omega : cz w < cz u + 1) (many - 1) 0 u3 σ5 _ _ _ (by omega) hI (hR8.le (by decide))
                have zw : w32 ((tI σ5 32) - 1) = (o : Int) := by rw [O2]; exact open1 (by omega)
                have wan : ff_wanted σ5 = tA σ5 15 (4 * k + 0 : Nat) := by
                  unfold ff_wanted
                  rw [zw, O4, if_pos z17, z19, O5]
                  exact congrArg (tA σ5 15) (ix4 (j := 0) k24 (by decide))
                refine OUTb.jS (OUTb.le (OUTb.kT (F' := ANk p (m + 18) (kd w p k) (cz u + 1) (tA σ5 15 (4 * k + 0 : Nat)) ((0 : Nat) : Int) u3) (fun Q X I l hh => ?_) (OUTb.iT (F' := fun I _ => wpT (e + 8) 25 [ai (tA σ5 15 (4 * k + 0 : Nat)), ai (if o + 1 = 6 then 1 else 0)] σ5 (zqI (fun v u => I v ((o + 1 : Nat) : Int) u) zno)) (fun I QF cl kk => ?_) loop)))
                · have jK := K5.2.2.2.2.1 k (by unfold nK at hk ⊢; rw [(cT.2.2.2.1 10 (by decide)).1]; exact hk)
                  obtain ⟨y1, y2, y3, y4, y5, y6, y7, y8, y9, y10, y11, y12⟩ := jK
                  rw [kd5] at y1 y6 y9 y10 y12
                  have yp := y12 0 (by rw [show tA σ5 14 k = (many : Int) from z14]; omega)
                  have ea : aN u3 (fR u3 41 (kd w p k)) ((0 : Nat) : Int) = tA σ5 15 (4 * k + 0 : Nat) := by
                    unfold aN
                    rw [if_neg (by rw [show tg u3 (fR u3 41 (kd w p k)) = 102 from y9]; decide)]
                    exact yp.1
                  refine ⟨by rw [y1]; decide, ⟨y9, by omega, by rw [show ln u3 (fR u3 41 (kd w p k)) = 4 from y10]; omega⟩, ?_⟩
                  have ea' : aN u3 (fR u3 41 (kd w p k)) 0 = tA σ5 15 (4 * k + 0 : Nat) := ea
                  rw [ea']
                  exact hh
                · refine cl _ _ _ (br1 rb8.f0 (br0 (by rw [O2]; omega) (fa ⟨SLo.wanted (by omega) O2, fa ?_⟩)))
                  rw [wan, O2]
                  have e7 : (if (((o + 1 : Nat) : Int) = 6) then (1 : Int) else 0) = (if o + 1 = 6 then 1 else 0) := by
                    by_cases y : o + 1 = 6
                    · rw [if_pos y, if_pos (by omega)]
                    · rw [if_neg y, if_neg (by omega)]
                  rw [e7]
                  exact kk
              · -- a wrong token behind the sign
                have y32 : tI σ4 32 = o := (F4 32 (by decide)).1.trans x32
                obtain ⟨σ5, O1, O2, O3, O4, O5, O6, O7, O8, O9, O10, run⟩ := sT_opens (d := e + 6) (q := np τ) (pl := tI τ 5) y32 (by omega)
                have y17 : tA σ5 17 (np τ) = 5 := by rw [(O1 17 (by decide)).2, (F4 17 (by decide)).2]; exact x17
                have y19 : tA σ5 19 (np τ) = k := by rw [(O1 19 (by decide)).2, (F4 19 (by decide)).2]; exact x19
                refine DD.jP (σ := σ5) (F' := fun I _ => I (np τ) o σ5) O1 (fun I QF cl kk => run _ (zq_v (bT_begins_619 kk))) ?_
                refine DD.jS ?_
                exact dI15 (o := o + 1) (R := nR τ) (D4.ft O1 (by decide)) (by rw [(O1 27 (by decide)).1, (F4 27 (by decide)).1, (ct.2.2.2.1 27 (by decide)).1]; exact hN.2.1) hN.2.2.1 O2 (by omega) (fun k' hk' => by
                  have : k' = o := by omega
                  subst this
                  exact ⟨np τ, O4, hnp, by rw [O5]; decide, by rw [O5]; decide, Or.inl O6, Or.inl ⟨y17, k, y19, k24, by rw [O5]; decide⟩⟩) (fun _ => qr) (by omega)
        · have u17 : tA σ 17 (np τ) = 5 := ((F 17 (by decide)).2 _).trans v17
          by_cases h07 : tI σ 7 = 0
          · refine DD.jT (F' := fun I _ => I (np τ) o σ) (fun I QF cl kk => ⟨qr, br0 (fun y => y.2.2 (D.ns h07 40).1) (bT_begins_600 ⟨qr, br0 (by rw [u17]; decide) (bT_begins_619 kk)⟩)⟩) ?_
            have U6 : UT τ σ o := U3.trans (UT.ft F (by decide) o) (by omega) eR3
            exact DD.jS (dI15 (R := nR τ) D (by rw [(F 27 (by decide)).1, (FA 27 (by decide)).1]; exact hN.2.1) hN.2.2.1 (by rw [(F 32 (by decide)).1, (FA 32 (by decide)).1]; exact e32) (by omega) (fun k hk => (hsl k (by omega)).on (by omega) U6 (hsq k (by omega))) (fun _ => qr) (by omega))
          · exact absurd ((F 7 (by decide)).1.trans rb3.f0) h07
      · -- one too many
        obtain ⟨σ', F, D, hf, run⟩ := bgMuch (e := e) (x1 := s) (x2 := much) (x3 := tI τ 5) (x8 := (k : Int)) rb ⟨e16, hnp⟩ (by omega) hmz
        exact OUTb.go (OUTb.thr rb (fun Q X hh => pk (kC (bC_X0_kinded_64 ⟨tgp, sC_needOk (by decide) (fa (rb.needNo (if_neg hmz) hr1 hh))⟩))) (DD.jP (σ := σ') (S1 := [7, 8, 16, 17, 18, 19, 20, 21, 22, 23, 24, 25, 26]) (F' := fun I _ => I (-4) o σ') F (fun I QF cl kk => bgK (kT1 rfl (run _ kk))) (DD.jF D hf (fun I QF cl k => k))))
end ZKind2
