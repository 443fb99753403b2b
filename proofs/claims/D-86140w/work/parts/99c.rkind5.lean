/-! a line of a kind, both, whole -/
section ZRKind5
variable {p d e : Nat} {w : CW} {τ : TW}
theorem pr_readKind {late : Int} {S S' T : List Nat} (h : RB p w τ) (K : KR p w τ) (hs0 : tI τ 3 ≠ 0) (hT : late = 0 → ∀ u, u < nK τ → kd w p u ∈ T) (hT0 : fR w 0 p ∈ T) (hS : ∀ f, f ∈ [1, 9, 10, 11, 12, 13, 14] → f ∈ S) (h0S : 0 ∉ S) (hS' : ∀ f, f ∈ [2, 3, 4, 5, 6, 7, 8, 10, 12, 13, 14, 15] → f ∈ S') (hR : Rm 500 w τ) :
    OUTg (nK τ) p T S S' (-5800) 40 (fun (_ : Unit) (_ : Unit) w' τ' => KR p w' τ' ∧ nK τ' = nK τ + 1) (fun Q X => wpC p (d + 14) 4 [ar p] w (zqV (fun u1 => wpC p (d + 14) 13 [ar p, ai late] u1 (zqV (fun u2 => wpC p (d + 14) 4 [ar p] u2 (zqV (Q ()) X)) X)) X)) (fun Q => wpT (e + 7) 11 [ai late] τ (zqV (Q ()) zno)) w τ := by
  have W := h.1
  have hk0 := K.2.2.1
  have hk24 := K.2.2.2.1
  have hSl : ∀ f, f ∈ [9, 10, 11, 12, 13, 14] → f ∈ S := fun f hf => hS f (by simp at hf ⊢; omega)
  obtain ⟨w1, σ, c1, p1, run1, g⟩ := nx (d := d + 2) (e := e + 2) (T := []) (S := [9, 10, 11, 12, 13, 14]) (S' := [2, 3, 4, 5, 6]) h hs0 (fun f hf => hf) (fun f hf => hf) (by unfold Rm at *; omega)
  have c1' : CF p T S S' w τ w1 σ := c1.mono W (fun r hr => by cases hr) hSl (fun f hf => hS' f (by simp at hf ⊢; omega))
  have hf0 : tI σ 7 = 0 := (c1.2.2.2.1 7 (by decide)).1.trans h.f0
  have hK10 : tI σ 10 = tI τ 10 := (c1.2.2.2.1 10 (by decide)).1
  have en1 : nK σ = nK τ := by unfold nK; rw [hK10]
  -- a fault: the rest is dead
  have d64 : ∀ {τ2 : TW} (Q : TW → Prop), tI τ2 7 ≠ 0 → Q τ2 → pT_readKind_64 (wpT (e + 6)) Q late τ2 := fun Q hne hQ => ⟨fun y => absurd y hne, fun _ => hQ⟩
  have ft78 : ∀ {τ1 : TW}, FT [7, 8] σ τ1 → FT S' τ τ1 ∧ tI τ1 5 = tI σ 5 ∧ tI τ1 1 = tI σ 1 := fun F => ⟨c1'.2.2.2.1.trans (F.mono (fun f hf => hS' f (by simp at hf ⊢; omega))), (F 5 (by decide)).1, (F 1 (by decide)).1⟩
  have kd1 : ∀ u, kd w1 p u = kd w p u := fun u => KRs.kd_fr W K c1.1 c1.2.1 (fun r hr => by cases hr) (by decide) u
  rcases g with ⟨g1, g4⟩ | ⟨hh, pl, x, g2, g3, g4⟩
  · have W1 := c1.2.2.1
    have K1 : KR p w1 σ := KR.fr W K c1.1 c1.2.1 (fun r hr => by cases hr) (by decide) (by decide) c1.2.2.2.1 (fun f hf => by simp at hf; omega)
    have hR1 : Rm 500 w1 σ := by
      unfold Rm at *
      rw [c1.1.emu, c1.1.emz]
      omega
    have hroom1 := Rm.room g1 hR1 (k := 1) (n := 8) (by decide)
    -- the component throws here
    have thr : ∀ {how : Int} {τ3 : TW}, FT [7, 8] σ τ3 → Dd how (tI σ 5) τ3 → (∀ (Q : CW → Prop) (X : Nat → CW → Prop), X (cz w1 + 1) (wrW w1 how (tI σ 5)) → pC_X0_readKind_0 p (wpC p (d + 13)) (fun u => Q u) (fun x u => X x u) late w1) → (∀ Q : TW → Prop, Q τ3 → wpT (e + 7) 11 [ai late] τ (zqV Q zno)) →
      OUTg (nK τ) p T S S' (-5800) 40 (fun (_ : Unit) (_ : Unit) w' τ' => KR p w' τ' ∧ nK τ' = nK τ + 1) (fun Q X => wpC p (d + 14) 4 [ar p] w (zqV (fun u1 => wpC p (d + 14) 13 [ar p, ai late] u1 (zqV (fun u2 => wpC p (d + 14) 4 [ar p] u2 (zqV (Q ()) X)) X)) X)) (fun Q => wpT (e + 7) 11 [ai late] τ (zqV (Q ()) zno)) w τ := by
      intro how τ3 F3 D3 hC hTm
      obtain ⟨f1, f2, f3⟩ := ft78 F3
      refine ⟨wrW w1 how (tI σ 5), τ3, (), ⟨⟨c1'.1.trans (wrW_fr _ _ _ _), c1'.2.1.trans (wrW_st W1 [] S how (tI σ 5)).2.1, (wrW_st W1 [] S how (tI σ 5)).2.2.1, f1, by rw [f2]; exact c1.2.2.2.2.1, by rw [f3]; exact c1.2.2.2.2.2⟩, fun u _ => (wrW_kd W1 K1 _ _ u).trans (kd1 u), (KSm.ft c1.2.2.2.1 (by decide)).trans (KSm.ft F3 (by decide))⟩, fun Q hQ => hTm _ hQ, Or.inr ⟨how, tI σ 5, cz w1 + 1, ?_, wrW_wr _ _ _, D3, fun Q X hX => g4 _ (wC_X0_readKind (Nat.zero_le _) (hC (fun u => wpC p (d + 14) 4 [ar p] u (zqV (Q ()) X)) X hX))⟩⟩
      have e8 : pot (wrW w1 how (tI σ 5)) τ3 = pot w1 σ + 13 := by
        have q1 : cz (wrW w1 how (tI σ 5)) = cz w1 + 1 := rfl
        have q2 : cu (wrW w1 how (tI σ 5)) = cu w1 + 8 := rfl
        unfold pot zm
        rw [f2, f3, q1, q2]
        omega
      omega
    by_cases h2 : tI σ 3 = 2
    · have h2' : tI σ 3 = 2 := h2
      have hty : fI w1 10 p = 2 := g1.ty.trans h2
      have hwd : fI w1 12 p = tI σ 4 := g1.wd (Or.inr (Or.inl h2))
      have hK1' : 0 ≤ tI σ 10 ∧ tI σ 10 ≤ 24 := by rw [hK10]; exact ⟨hk0, hk24⟩
      have hkm : fI w1 1 p = tI σ 10 := K1.2.1
      by_cases hkf : kfB σ (tI σ 4) = -4
      · by_cases hfull : tI σ 10 = 24
        · -- too many kinds
          obtain ⟨τ1, ⟨a1, b1, d1⟩, r1⟩ := RB.fails (e := e + 5) g1 (k := 9) (pl := tI σ 5) (by decide)
          refine thr a1 b1 (fun Q X hX => fa ?_) (fun Q hQ => wT_readKind (by omega) (run1 _ ⟨fun _ => sT_kindOf hK1'.1 hK1'.2 ⟨fun _ => ⟨fun _ => r1 _ (d64 _ d1 hQ), fun y => absurd hfull y⟩, fun y => absurd hkf y⟩, fun y => absurd h2' y⟩))
          rw [if_pos hty]
          refine sC_want (by decide) ?_
          show wpC p (d + 13) 15 [ar p, al (fI w1 12 p)] w1 _
          rw [hwd]
          refine sC_named K1 ?_
          rw [if_pos hkf]
          refine fa ?_
          rw [if_pos rfl]
          refine sC_needOk (by decide) (fa ?_)
          rw [hkm, hfull, if_neg (by decide), g1.pl]
          exact sC_needNo rfl hroom1 hX
        · -- a new name
          have hn24 : nK σ < 24 := by unfold nK; omega
          have hnk : (nK σ : Int) = tI σ 10 := by unfold nK; omega
          obtain ⟨σ1, hσ1⟩ : ∃ σ1, σ1 = sA (sA (sA (sI σ 10 (w32 (tI σ 10 + 1))) 12 (tI σ 10) (tI σ 4)) 13 (tI σ 10) (-4)) 14 (tI σ 10) 0 := ⟨_, rfl⟩
          have F1 : FT [10, 12, 13, 14] σ σ1 := by rw [hσ1]; exact ((((FT.refl _ σ).ssI (by simp)).ssA (by simp)).ssA (by simp)).ssA (by simp)
          have N1 : NewK σ σ1 (tI σ 4) (-4) := by
            rw [hσ1]
            refine ⟨?_, fun j => ?_, fun j => ?_, fun j => ?_, fun i => rfl⟩
            · show w32 (tI σ 10 + 1) = _
              exact w32_s (by omega) (by omega)
            · rw [tA_sA, tA_sA, tA_sA, tA_sI]
              rw [if_neg (by omega), if_neg (by omega)]
              by_cases y : j = nK σ
              · rw [if_pos ⟨rfl, by omega⟩, if_pos y]
              · rw [if_neg (by omega), if_neg y]
            · rw [tA_sA, tA_sA, tA_sA, tA_sI]
              rw [if_neg (by omega)]
              by_cases y : j = nK σ
              · rw [if_pos ⟨rfl, by omega⟩, if_pos y]
              · rw [if_neg (by omega), if_neg (by omega), if_neg y]
            · rw [tA_sA, tA_sA, tA_sA, tA_sI]
              by_cases y : j = nK σ
              · rw [if_pos ⟨rfl, by omega⟩, if_pos y]
              · rw [if_neg (by omega), if_neg (by omega), if_neg (by omega), if_neg y]
          have hv : ∀ j, j < nK σ → tA σ 12 j ≠ tI σ 4 := by
            intro j hj y
            rcases kfN_spec (τ := σ) (tI σ 4) (nK σ) with ⟨_, q⟩ | ⟨q, q1, q2, q3⟩
            · exact q j hj y
            · have : kfB σ (tI σ 4) = q := q2
              omega
          have kσ1 : KSm (nK τ) τ σ1 := (KSm.ft c1.2.2.2.1 (by decide)).trans (fun u hu => by
            obtain ⟨n1, n2, n3, n4, n5⟩ := N1
            have n3u := n3 u
            have n4u := n4 u
            have n2u := n2 u
            rw [if_neg (by omega)] at n3u n4u n2u
            exact ⟨n2u, n3u, n4u, fun i _ => n5 _⟩)
          have g1' : RB p w1 σ1 := g1.ft F1 (fun f hf => by simp at hf; omega)
          have hp1 : pot w1 σ1 = pot w1 σ := by unfold pot; rw [(F1 5 (by decide)).1, (F1 1 (by decide)).1]
          obtain ⟨w2, σ2, c2, p2, run2, g2⟩ := nx (d := d + 1) (e := e + 2) (T := []) (S := [9, 10, 11, 12, 13, 14]) (S' := [2, 3, 4, 5, 6]) g1' (by rw [(F1 3 (by decide)).1]; omega) (fun f hf => hf) (fun f hf => hf) (by
            unfold Rm at *
            rw [hp1]
            omega)
          have c01 : CF p T S S' w τ w1 σ1 := ⟨c1'.1, c1'.2.1, c1'.2.2.1, c1'.2.2.2.1.trans (F1.mono (fun f hf => hS' f (by simp at hf ⊢; omega))), by rw [(F1 5 (by decide)).1]; exact c1'.2.2.2.2.1, by rw [(F1 1 (by decide)).1]; exact c1'.2.2.2.2.2⟩
          have c02 := c01.trans c2 (fun r hr => by cases hr) hSl (fun f hf => hS' f (by simp at hf ⊢; omega))
          have cm : ∀ (Q : CW → Prop) (X : Nat → CW → Prop), wpC p (d + 13) 4 [ar p] w1 (zqV (fun u13 =>
            (late = 0 →
              pC_X0_readKind_92 p (wpC p (d + 13)) Q X late (tI σ 4) 0 p u13) ∧
            (¬ (late = 0) →
              wpC p (d + 13) 12 [ar p, ar (sr u13 4)] u13 (zqI (fun v114 u113 =>
                (v114 = 0 →
                  pC_X0_readKind_97 p (wpC p (d + 13)) Q X late (tI σ 4) 0 0 p u113) ∧
                (¬ (v114 = 0) →
                  pC_X0_readKind_92 p (wpC p (d + 13)) Q X late (tI σ 4) 0 p u113)) zno))) (fun x116 u117 =>
            X x116 u117)) → pC_X0_readKind_0 p (wpC p (d + 13)) Q X late w1 := by
            intro Q X hh
            refine fa ?_
            rw [if_pos hty]
            refine sC_want (by decide) ?_
            show wpC p (d + 13) 15 [ar p, al (fI w1 12 p)] w1 _
            rw [hwd]
            refine sC_named K1 ?_
            rw [if_pos hkf]
            refine fa ?_
            rw [if_pos rfl]
            refine sC_needOk (by decide) (fa ?_)
            rw [hkm, if_pos (by omega)]
            refine sC_needOk (by decide) (fa ?_)
            rw [hwd]
            exact hh
          have tm : ∀ Q : TW → Prop, (((ff_isWord 1 σ2) = 0 →
        (late = 0 →
          pT_readKind_142 (wpT (e + 6)) Q (nK σ) σ2) ∧
        (¬ (late = 0) →
          wpT (e + 6) 12 [ai 2] σ2 (zqV (fun u46 =>
            pT_readKind_142 (wpT (e + 6)) Q (nK σ) u46) zno))) ∧
      (¬ ((ff_isWord 1 σ2) = 0) →
        wpT (e + 6) 15 [ai (nK σ), ai late] σ2 (zqV (fun u47 =>
          pT_readKind_142 (wpT (e + 6)) Q (nK σ) u47) zno))) → wpT (e + 7) 11 [ai late] τ (zqV Q zno) := by
            intro Q hh
            refine wT_readKind (by omega) (run1 _ ⟨fun _ => sT_kindOf hK1'.1 hK1'.2 ⟨fun _ => ⟨fun y => absurd y hfull, fun _ => ⟨fun _ => fa (fa ⟨⟨hK1'.1, by have : tI σ 10 = tI σ 10 := rfl; omega⟩, fa ⟨⟨hK1'.1, by have : tI σ 10 = tI σ 10 := rfl; omega⟩, fa ⟨⟨hK1'.1, by have : tI σ 10 = tI σ 10 := rfl; omega⟩, fa ?_⟩⟩⟩), fun y => absurd hf0 y⟩⟩, fun y => absurd hkf y⟩, fun y => absurd h2' y⟩)
            have e1 : sA (sA (sA (sI σ 10 (w32 (tI σ 10 + 1))) 12 (tI σ 10) (tI (sI σ 10 (w32 (tI σ 10 + 1))) 4)) 13 (tI σ 10) (-4)) 14 (tI σ 10) 0 = σ1 := hσ1.symm
            rw [e1]
            refine run2 _ ?_
            rw [show tI σ 10 = (nK σ : Int) from hnk.symm]
            exact hh
          have e0 : fR w2 0 p = fR w 0 p := ((c2.2.1 0 (by decide)).2).trans ((c1.2.1 0 (by decide)).2)
          have ekd : ∀ u, kd w2 p u = kd w p u := fun u => (KRs.kd_fr W1 K1 c2.1 c2.2.1 (fun r hr => by cases hr) (by decide) u).trans (KRs.kd_fr W K c1.1 c1.2.1 (fun r hr => by cases hr) (by decide) u)
          rcases g2 with ⟨rb2, k2⟩ | ⟨hh, pl, x, wr2, dd2, k2⟩
          · have K2 : KR p w2 σ := KR.fr W1 K1 c2.1 c2.2.1 (fun r hr => by cases hr) (by decide) (by decide) (FT.refl [] σ) (fun f hf => by cases hf)
            obtain ⟨w3, σ3, b3, c3, run3, g3⟩ := rk_97 (d := d) (e := e) (late := late) (T := T) (S := S) (S' := S') rb2 K2 hn24 (N1.ft c2.2.2.2.1 (fun f hf => by simp at hf; omega)) hv (fun q u hu => by rw [ekd]; exact hT q u (by omega)) (by rw [e0]; exact hT0) hS h0S (fun f hf => hS' f (by simp at hf ⊢; omega)) (by
              unfold Rm at *
              rw [c2.1.emu, c2.1.emz]
              omega)
            refine ⟨w3, σ3, (), ⟨c02.trans c3.1 (fun r hr => Or.inl hr) (fun f hf => hf) (fun f hf => hf), fun u hu => (c3.2.1 u (by omega)).trans (ekd u), (kσ1.trans (KSm.ft c2.2.2.2.1 (by decide))).trans (by rw [← en1]; exact c3.2.2)⟩, fun Q hQ => tm _ (run3 Q hQ), ?_⟩
            rcases g3 with ⟨a, q1, q2, q3, q4⟩ | ⟨hh, pl, x, q1, q2, q3, q4⟩
            · exact Or.inl ⟨(), q1, by omega, ⟨q3.1, by rw [← en1]; exact q3.2⟩, fun Q X hQ => g4 _ (wC_X0_readKind (Nat.zero_le _) (cm _ X (k2 _ (q4 Q X hQ))))⟩
            · exact Or.inr ⟨hh, pl, x, by omega, q2, q3, fun Q X hX => g4 _ (wC_X0_readKind (Nat.zero_le _) (cm _ X (k2 _ (q4 Q X hX))))⟩
          · -- the token behind the name is wrong
            have f2 : tI σ2 7 = 0 := (c2.2.2.2.1 7 (by decide)).1.trans g1'.f0
            have h7 : tI σ2 3 = 7 := by
              rcases dd2 with ⟨a, b, c⟩ | ⟨a, b, c, e, -⟩
              · omega
              · exact b
            have hw0 : ff_isWord 1 σ2 = 0 := ff_w0 (fun y => by omega)
            by_cases hl : late = 0
            · obtain ⟨τ3, ⟨a2, b2⟩, run3⟩ := dk_142 (e := e + 2) (k := (nK σ : Int)) dd2
              refine ⟨w2, τ3, (), ⟨⟨c02.1, c02.2.1, c02.2.2.1, c02.2.2.2.1.trans (a2.mono (fun f hf => hS' f (by simp at hf ⊢; omega))), by rw [(a2 5 (by decide)).1]; exact c02.2.2.2.2.1, by rw [(a2 1 (by decide)).1]; exact c02.2.2.2.2.2⟩, fun u _ => ekd u, (kσ1.trans (KSm.ft c2.2.2.2.1 (by decide))).trans (KSm.ft a2 (by decide))⟩, fun Q hQ => tm _ ⟨fun _ => ⟨fun _ => run3 _ hQ, fun y => absurd hl y⟩, fun y => absurd hw0 y⟩, Or.inr ⟨hh, pl, x, ?_, wr2, b2, fun Q X hX => g4 _ (wC_X0_readKind (Nat.zero_le _) (cm _ X (k2 _ hX)))⟩⟩
              have : pot w2 τ3 = pot w2 σ2 := by unfold pot; rw [(a2 5 (by decide)).1, (a2 1 (by decide)).1]
              omega
            · obtain ⟨τ1, ⟨a1, b1, d1⟩, r1⟩ := dd_stop (d := e + 4) (k := 2) dd2 (by decide)
              obtain ⟨τ3, ⟨a2, b2⟩, run3⟩ := dk_142 (e := e + 2) (k := (nK σ : Int)) b1
              have a3 := a1.trans a2
              refine ⟨w2, τ3, (), ⟨⟨c02.1, c02.2.1, c02.2.2.1, c02.2.2.2.1.trans (a3.mono (fun f hf => hS' f (by simp at hf ⊢; omega))), by rw [(a3 5 (by decide)).1]; exact c02.2.2.2.2.1, by rw [(a3 1 (by decide)).1]; exact c02.2.2.2.2.2⟩, fun u _ => ekd u, (kσ1.trans (KSm.ft c2.2.2.2.1 (by decide))).trans (KSm.ft a3 (by decide))⟩, fun Q hQ => tm _ ⟨fun _ => ⟨fun y => absurd y hl, fun _ => r1 _ (run3 _ hQ)⟩, fun y => absurd hw0 y⟩, Or.inr ⟨hh, pl, x, ?_, wr2, b2, fun Q X hX => g4 _ (wC_X0_readKind (Nat.zero_le _) (cm _ X (k2 _ hX)))⟩⟩
              have : pot w2 τ3 = pot w2 σ2 := by unfold pot; rw [(a3 5 (by decide)).1, (a3 1 (by decide)).1]
              omega
      · -- the name is taken
        obtain ⟨τ1, ⟨a1, b1, d1⟩, r1⟩ := RB.fails (e := e + 5) g1 (k := 3) (pl := tI σ 5) (by decide)
        refine thr a1 b1 (fun Q X hX => fa ?_) (fun Q hQ => wT_readKind (by omega) (run1 _ ⟨fun _ => sT_kindOf hK1'.1 hK1'.2 ⟨fun y => absurd y hkf, fun _ => r1 _ (d64 _ d1 hQ)⟩, fun y => absurd h2' y⟩))
        rw [if_pos hty]
        refine sC_want (by decide) ?_
        show wpC p (d + 13) 15 [ar p, al (fI w1 12 p)] w1 _
        rw [hwd]
        refine sC_named K1 ?_
        obtain ⟨u, u1, u2⟩ := (kfB_rg σ (tI σ 4)).resolve_left hkf
        have hul := K1.2.2.2.2.1 u u1
        rw [if_neg hkf, u2, Int.toNat_natCast]
        refine fa ?_
        rw [if_neg (by have := hul.2.1; omega), g1.pl]
        exact sC_needNo rfl hroom1 hX
    · -- no name of a kind
      have h2' : ¬ (tI σ 3 = 2) := h2
      obtain ⟨τ1, ⟨a1, b1, d1⟩, r1⟩ := RB.stop (e := e + 4) g1 (k := 2) (by decide)
      refine thr a1 b1 (fun Q X hX => fa ?_) (fun Q hQ => wT_readKind (by omega) (run1 _ ⟨fun y => absurd y h2', fun _ => r1 _ (d64 _ d1 hQ)⟩))
      rw [g1.ty, if_neg h2]
      refine sC_wantNo rfl hroom1 ?_
      rw [g1.pl]
      exact hX
  · -- a wrong token
    have h7 : tI σ 3 = 7 := by
      rcases g3 with ⟨a, b, c⟩ | ⟨a, b, c, e, -⟩
      · omega
      · exact b
    have h7' : ¬ (tI σ 3 = 2) := by
      have : tI σ 3 = 7 := h7
      omega
    obtain ⟨τ1, ⟨a1, b1, d1⟩, r1⟩ := dd_stop (d := e + 4) (k := 2) g3 (by decide)
    obtain ⟨q1, q2, q3⟩ := ft78 a1
    refine ⟨w1, τ1, (), ⟨⟨c1'.1, c1'.2.1, c1'.2.2.1, q1, by rw [q2]; exact c1'.2.2.2.2.1, by rw [q3]; exact c1'.2.2.2.2.2⟩, fun u _ => kd1 u, (KSm.ft c1.2.2.2.1 (by decide)).trans (KSm.ft a1 (by decide))⟩, fun Q hQ => wT_readKind (by omega) (run1 _ ⟨fun y => absurd y h7', fun _ => r1 _ (d64 _ d1 hQ)⟩), Or.inr ⟨hh, pl, x, ?_, g2, b1, fun Q X hX => g4 _ hX⟩⟩
    have : pot w1 τ1 = pot w1 σ := by unfold pot; rw [q2, q3]
    omega
end ZRKind5
