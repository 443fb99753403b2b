/-! add: both, whole -/
section ZAdd2
variable {p b e d f F n : Nat} {w w' : CW} {τ σ : TW}
def adX (p d : Nat) (Q : Int → CW → Prop) (x1 : Int) (x : Nat) (u : CW) : Prop := tg u x = 2 ∧ pC_X0_add_79 p (wpC p d) Q x1 x u
def adE (p d : Nat) (Q : Int → CW → Prop) (x1 : Int) (u14 : CW) : Prop := ∀ v16 : Int, v16 = (if (fI u14 10 p) = 0 then 1 else 0) → wpC p d 14 [ar p, ai v16] u14 (zqV (fun u17 => ∀ u19 : CW, u19 = pI u17 2 p (w32 ((fI u17 2 p) + 1)) → pC_X0_add_101 p (wpC p d) Q x1 u19) (fun x21 u22 => adX p d Q x1 x21 u22))
theorem api_add {lim : Int} (h : INV p w τ) (hm : lim ≤ mu w ∧ lim ≤ 5 * mz w) (hlim : zm w + 6500 * tI τ 1 + 20000 ≤ lim) {K : Int → Int → CW → TW → Prop} (h1 : ∀ v w' τ', INV p w' τ' → STP w τ w' τ' 300 → K v v w' τ') : wpC p (d + 251) 46 [ar p] w (zqI (fun v w' => wpT (e + 12) 65 [] τ (zqI (fun v' τ' => K v v' w' τ') zno)) zno) := by
  obtain ⟨⟨W, L, p8⟩, hTP, ⟨hf1, hf2⟩, hV, hT, hR⟩ := id h
  have t0 : 0 ≤ tI τ 1 := hTP.1.1
  rcases hT with hN | ⟨⟨h22, h9⟩, hB⟩
  · refine wC_X0_add (Nat.zero_le _) (bC_X0_add_0 (br1 hN.1.1 ?_))
    refine wT_add (by omega) (bT_add_0 (br1 hN.1.2 ?_))
    exact h1 _ _ _ h ⟨⟨rfl, rfl⟩, by omega⟩
  obtain ⟨⟨KK, -⟩, -⟩ := id hB
  obtain ⟨⟨a1, a2, a3, a4, a5⟩, -⟩ := id KK
  have a1 : tg w (fR w 0 p) = 112 := a1
  have a3 : p < fR w 0 p := a3
  have a4 : fR w 0 p ≤ p + 8 := a4
  have z0 := W.le (r := fR w 0 p) (by rw [a1]; decide)
  have pz := W.pz
  obtain ⟨w1, hw1⟩ : ∃ w1, w1 = pI (pI w 21 p 0) 9 p 0 := ⟨_, rfl⟩
  obtain ⟨τ1, hτ1⟩ : ∃ τ1, τ1 = sI (sI τ 7 0) 6 0 := ⟨_, rfl⟩
  have F1 : FT [6, 7] τ τ1 := by rw [hτ1]; exact ((FT.refl _ τ).ssI (by decide)).ssI (by decide)
  have g6 : tI τ1 6 = 0 ∧ tI τ1 7 = 0 := by rw [hτ1]; exact ⟨rfl, rfl⟩
  have W1 : WF p w1 := by rw [hw1]; exact (W.spI _ _ _).spI _ _ _
  have Fr1 : Fr (p :: []) w w1 := by rw [hw1]; exact ((Fr.refl _ w).spI (Or.inl (by simp))).spI (Or.inl (by simp))
  have P1 : PF [9, 21] p w w1 := by rw [hw1]; exact ((PF.refl _ p w).spI (Or.inl (by decide))).spI (Or.inl (by decide))
  have L1 : Lit p w1 := by rw [hw1]; exact L
  have T1 : tpT τ1 := by rw [hτ1]; exact hTP.1
  have R1 : tpC p w1 τ1 := by
    rw [hw1, hτ1]
    exact (hTP.2.1.spI (by decide)).spI (by decide)
  have ez : cz w1 = cz w ∧ cu w1 = cu w := by rw [hw1]; exact ⟨rfl, rfl⟩
  have e9 : fI w1 9 p = 0 := by rw [hw1, fI_at]
  have t1 : tI τ1 1 = tI τ 1 := (F1 1 (by decide)).1
  have emz : mz w1 = mz w ∧ mu w1 = mu w := by rw [hw1]; exact ⟨rfl, rfl⟩
  have e21 : fI w1 21 p = 0 := by rw [hw1, fI_of _ _ _ _ (by decide), fI_at]
  have h45 : R45 τ1 := hB.r45.ft F1 (by decide) (by decide)
  obtain ⟨w2, τ2, ⟨st, F2, q1, q2⟩, runT, g⟩ := pr_nextL (d := d + 237) (e := e + 6) W1 L1 T1 R1 (e9.trans g6.1.symm) (Int.le_of_eq g6.1.symm) (by
      have y : tI τ1 6 = 0 := g6.1
      show tI τ1 6 ≤ tI τ1 1
      omega) (by unfold zm at hlim; omega) g6.2 h45
  obtain ⟨Fr2, P2, W2, z2, u2⟩ := st
  have Fr12 := Fr1.trans Fr2
  have P12 : PF [9, 10, 11, 12, 13, 14, 21] p w w2 := (P1.mono (by decide)).trans (P2.mono (by decide))
  have F12 : FT [2, 3, 4, 5, 6, 7] τ τ2 := (F1.mono (by decide)).trans (F2.mono (by decide))
  have t2 : tI τ2 1 = tI τ 1 := ((F2 1 (by decide)).1).trans t1
  have e21' : fI w2 21 p = 0 := ((P2 21 (by decide)).1).trans e21
  have r5 : 0 ≤ tI τ2 5 := by
    have y1 : tI τ1 6 = 0 := g6.1
    have y2 : tI τ2 5 = tI τ2 5 := rfl
    omega
  have zm2 : zm w2 ≤ zm w + 95 := by unfold zm; omega
  have em2 : mz w2 = mz w ∧ mu w2 = mu w := ⟨Fr12.emz, Fr12.emu⟩
  have e1 : fI (pI w 21 p 0) 1 p = fI w 1 p := fI_of _ _ _ _ (by decide)
  have kd2 : ∀ u, kd w2 p u = kd w p u := fun u => by
    have o := Fr12.eob W (r := fR w 0 p) (by rw [a1]; decide) (fun y => by have := List.mem_singleton.mp y; omega)
    unfold kd
    rw [show fR w2 0 p = fR w 0 p from (P12 0 (by decide)).2]
    exact ob.eaR o u
  have fr2 : Fr [p, fR w 0 p] w w2 := Fr12.mono (fun r hr => Or.inl (by rw [List.mem_singleton.mp hr]; simp))
  -- the reference's way
  have topT : ∀ Q : Int → TW → Prop, (((ff_isWord 0 τ2) = 0 → wpT (e + 11) 12 [ai 2] τ2 (zqV (fun u7 => pT_add_40 (wpT (e + 11)) Q (tI τ 10) u7) zno)) ∧ (¬ ((ff_isWord 0 τ2) = 0) → wpT (e + 11) 11 [ai 1] τ2 (zqV (fun u18 => pT_add_40 (wpT (e + 11)) Q (tI τ 10) u18) zno))) → wpT (e + 12) 65 [] τ (zqI Q zno) := fun Q k => wT_add (by omega) (bT_add_0 (br0 (by rw [h9]; decide) (fa (wT_beginTape (d := e + 10) (Nat.zero_le _) (bT_beginTape_0 (fa (fa (by rw [← hτ1]; exact runT _ k))))))))
  refine wC_X0_add (Nat.zero_le _) (bC_X0_add_0 (br0 (by rw [h22]; decide) (fa (fa ?_))))
  rw [e1]
  refine wC_X0_begin (d := d + 249) (Nat.zero_le _) (bC_X0_begin_0 (fa ?_))
  rw [← hw1]
  -- a refusal
  have bad : ∀ {w3 : CW} {τ3 : TW} {x : Nat} {how pl : Int}, Fr [p, fR w 0 p] w w3 → WF p w3 → PF [1, 9, 10, 11, 12, 13, 14, 21] p w w3 → (∀ u, u < nK τ → kd w3 p u = kd w p u) → KSm (nK τ) τ τ3 → FT [2, 3, 4, 5, 6, 7, 8, 10, 12, 13, 14, 15] τ τ3 → zm w3 ≤ zm w + 10000 * tI τ 1 + 300 → Wr w3 x how pl → Dd how pl τ3 → (∀ Q, pT_add_40 (wpT (e + 11)) Q (tI τ 10) τ3 → wpT (e + 12) 65 [] τ (zqI Q zno)) → adX p (d + 250) (fun v w' => wpT (e + 12) 65 [] τ (zqI (fun v' τ' => K v v' w' τ') zno)) (fI w 1 p) x w3 := by
    intro w3 τ3 x how pl c1 c2 c3 c4 c5 c6 c7 c8 c9 run
    obtain ⟨w4, τ4, v, ⟨i1, i2⟩, runC, runT'⟩ := ad_bad (e := e) h hB ⟨h22, h9⟩ c1 c2 c3 c4 c5 c6 c7 c8 c9
    exact runC _ _ (run _ (runT' _ (h1 _ _ _ i1 i2)))
  have K2 : KR p w2 τ2 := KR.fr W KK Fr12 P12 (fun r hr => by cases hr) (by decide) (by decide) F12 (fun f hf => by simp at hf; omega)
  have n2 : nK τ2 = nK τ := by unfold nK; rw [(F12 10 (by decide)).1]
  have S2 : KSm (nK τ) τ τ2 := KSm.ft F12 (by decide)
  have P2' : PF [1, 9, 10, 11, 12, 13, 14, 21] p w w2 := P12.mono (by decide)
  have F2' : FT [2, 3, 4, 5, 6, 7, 8, 10, 12, 13, 14, 15] τ τ2 := F12.mono (by decide)
  rcases g with ⟨rb, runC⟩ | ⟨⟨g1, g2, g3⟩, x, wr, runC⟩
  · refine runC _ ?_
    by_cases z : ff_isWord 0 τ2 = 0
    · refine rb.word 3 0 rfl (by decide) ?_
      have z' : ff_isWord ((0 : Nat) : Int) τ2 = 0 := z
      rw [z']
      obtain ⟨τ3, ⟨f3, d3, -⟩, run3⟩ := RB.stop (e := e + 9) rb (k := 2) (by decide)
      refine sC_wantNo rfl (by unfold zm at zm2 hlim; omega) ?_
      rw [rb.pl]
      refine bad (fr2.trans (wrW_fr _ _ _ _)) (wrW_st W2 [] [] 2 _).2.2.1 (P2'.trans (wrW_st W2 [] _ 2 _).2.1) (fun u hu => (wrW_kd W2 K2 2 _ u).trans (kd2 u)) (S2.trans (KSm.ft f3 (by decide))) (F2'.trans (f3.mono (by decide))) ?_ (wrW_wr _ _ _) d3 (fun Q k => topT Q ⟨fun _ => run3 _ k, fun y => absurd z y⟩)
      have y1 : cz (wrW w2 2 (tI τ2 5)) = cz w2 + 1 := rfl
      have y2 : cu (wrW w2 2 (tI τ2 5)) = cu w2 + 8 := rfl
      have : zm (wrW w2 2 (tI τ2 5)) = zm w2 + 13 := by unfold zm; rw [y1, y2]; omega
      have : zm (wrW w2 2 (tI τ2 5)) = zm w2 + 13 := this
      omega
    · refine rb.word 3 0 rfl (by decide) ?_
      have z' : ff_isWord ((0 : Nat) : Int) τ2 ≠ 0 := z
      refine sC_want z' ?_
      have hs0 : tI τ2 3 ≠ 0 := by
        intro y
        exact z (ff_w0 (fun q => by have := q.1; omega))
      have hpot : pot w2 τ2 ≤ zm w + 6000 * tI τ 1 + 95 := by
        have y1 : tI τ2 5 = tI τ2 5 := rfl
        have y2 : tI τ2 1 = tI τ2 1 := rfl
        unfold pot
        omega
      have hR2 : Rm 500 w2 τ2 := by
        unfold Rm
        rw [em2.1, em2.2]
        omega
      have e0 : fR w2 0 p = fR w 0 p := (P12 0 (by decide)).2
      obtain ⟨w3, τ3, b, ⟨c, ck, cS⟩, runT3, g⟩ := pr_readKind (d := d + 236) (e := e + 4) (late := 1) (T := [fR w2 0 p]) (S := [1, 9, 10, 11, 12, 13, 14]) (S' := [2, 3, 4, 5, 6, 7, 8, 10, 12, 13, 14, 15]) rb K2 hs0 (fun y => absurd y (by decide)) (by simp) (fun f hf => hf) (by decide) (fun f hf => hf) hR2
      obtain ⟨c1, c2, c3, c4, c5, c6⟩ := c
      have c6 : tI τ3 1 = tI τ2 1 := c6
      rw [e0] at c1
      rw [n2] at ck cS
      have fr3 : Fr [p, fR w 0 p] w w3 := fr2.trans c1
      have P3 : PF [1, 9, 10, 11, 12, 13, 14, 21] p w w3 := P2'.trans (c2.mono (by decide))
      have kd3 : ∀ u, u < nK τ → kd w3 p u = kd w p u := fun u hu => (ck u hu).trans (kd2 u)
      have S3 : KSm (nK τ) τ τ3 := S2.trans cS
      have F3 : FT [2, 3, 4, 5, 6, 7, 8, 10, 12, 13, 14, 15] τ τ3 := F2'.trans c4
      have e3 : mz w3 = mz w ∧ mu w3 = mu w := ⟨fr3.emz, fr3.emu⟩
      have hz3 : zm w3 ≤ pot w3 τ3 := by unfold pot; omega
      rcases g with ⟨v, rb3, p3, ⟨K3, n3⟩, k3⟩ | ⟨hh, pl, x, p3, wr3, dd3, k3⟩
      · refine k3 (fun _ => adE p (d + 250) _ (fI w 1 p)) (adX p (d + 250) _ (fI w 1 p)) ?_
        have ty3 : fI w3 10 p = tI τ3 3 := rb3.ty
        refine fa ?_
        rw [ty3]
        by_cases hz : tI τ3 3 = 0
        · rw [if_pos hz]
          refine sC_want (by decide) (fa (bC_X0_add_101 (fa ?_)))
          obtain ⟨w5, hw5⟩ : ∃ w5, w5 = pI (pI w3 2 p (w32 (fI w3 2 p + 1))) 8 p 0 := ⟨_, rfl⟩
          obtain ⟨τ5, hτ5⟩ : ∃ τ5, τ5 = sI (sI τ3 1 0) 11 (w32 (tI (sI τ3 1 0) 11 + 1)) := ⟨_, rfl⟩
          rw [← hw5]
          have F5 : FT [1, 11] τ3 τ5 := by rw [hτ5]; exact ((FT.refl _ _).ssI (by decide)).ssI (by decide)
          have fr35 : Fr [p] w3 w5 := by rw [hw5]; exact ((Fr.refl _ _).spI (Or.inl (by simp))).spI (Or.inl (by simp))
          have P35 : PF [2, 8] p w3 w5 := by rw [hw5]; exact ((PF.refl _ _ _).spI (Or.inl (by decide))).spI (Or.inl (by decide))
          have W5 : WF p w5 := by rw [hw5]; exact (c3.spI _ _ _ (Or.inl (by decide))).spI _ _ _ (Or.inl (by decide))
          have K5 : KR p w5 τ5 := KR.back c3 K3 (fr35.mono (fun r hr => Or.inl (by rw [List.mem_singleton.mp hr]; simp))) (P35 0 (by decide)).2 (fun u _ => by rw [hw5]; rfl) (P35 1 (by decide)).1 (F5 10 (by decide)).1 (KSm.ft F5 (by decide))
          have n5 : nK τ5 = nK τ3 := by unfold nK; rw [(F5 10 (by decide)).1]
          have kd5 : ∀ u, u < nK τ → kd w5 p u = kd w p u := fun u hu => by rw [← kd3 u hu, hw5]; rfl
          have e2 : fI w3 2 p = tI τ3 11 := by rw [(P3 2 (by decide)).1, hf2]; exact ((F3 11 (by decide)).1).symm
          have INV5 : INV p w5 τ5 := inv_add h hB ⟨h22, h9⟩ (fr3.trans (fr35.mono (fun r hr => Or.inl (by rw [List.mem_singleton.mp hr]; simp)))) W5 ((P3.mono (by decide)).trans (P35.mono (by decide))) K5 kd5 (S3.trans (KSm.ft F5 (by decide))) (by rw [n5, n3, n2]; omega) ((F3.mono (by decide)).trans (F5.mono (by decide))) (by rw [hw5, fI_at]) (by rw [hτ5]; rfl) (by
            rw [(P35 21 (by decide)).1, (c2 21 (by decide)).1, e21', (F5 7 (by decide)).1]
            exact rb3.f0.symm) (by
            rw [hw5, fI_of _ _ _ _ (by decide), fI_at, hτ5, e2]
            rfl)
          have hK1 : fI w 1 p = tI τ 10 := KK.2.1
          refine topT _ ⟨fun y => absurd y z, fun _ => runT3 (fun _ u => pT_add_40 (wpT (e + 11)) _ (tI τ 10) u) (bT_add_40 (br0 (fun y => y.2 hz) (bT_add_59 (fa (br1 ?_ (fa ?_))))))⟩
          · have : tI (sI τ3 1 0) 7 = tI τ3 7 := rfl
            rw [this, show tI τ3 7 = 0 from rb3.f0]
            decide
          · rw [← hτ5, ← hK1]
            refine h1 _ _ _ INV5 ⟨⟨(fr3.trans (fr35.mono (fun r hr => Or.inl (by rw [List.mem_singleton.mp hr]; simp)))).emu, (fr3.trans (fr35.mono (fun r hr => Or.inl (by rw [List.mem_singleton.mp hr]; simp)))).emz⟩, ?_⟩
            have z5 : zm w5 = zm w3 := by rw [hw5]; rfl
            have : tI τ5 1 = 0 := by rw [hτ5]; rfl
            rw [z5, this]
            omega
        · rw [if_neg hz]
          obtain ⟨τ4, ⟨f4, d4, m4⟩, run4⟩ := RB.stop (e := e + 9) rb3 (k := 2) (by decide)
          refine sC_wantNo rfl (by unfold zm at hz3; unfold zm at hpot hlim; omega) ?_
          rw [rb3.pl]
          refine bad (fr3.trans (wrW_fr _ _ _ _)) (wrW_st c3 [] [] 2 _).2.2.1 (P3.trans (wrW_st c3 [] _ 2 _).2.1) (fun u hu => (wrW_kd c3 K3 2 _ u).trans (kd3 u hu)) (S3.trans (KSm.ft f4 (by decide))) (F3.trans (f4.mono (by decide))) ?_ (wrW_wr _ _ _) d4 (fun Q k => topT Q ⟨fun y => absurd y z, fun _ => runT3 (fun _ u => pT_add_40 (wpT (e + 11)) _ (tI τ 10) u) (bT_add_40 (br1 ⟨rb3.f0, hz⟩ (run4 _ (k.2 (fun y => m4 y.1)))))⟩)
          have y1 : cz (wrW w3 2 (tI τ3 5)) = cz w3 + 1 := rfl
          have y2 : cu (wrW w3 2 (tI τ3 5)) = cu w3 + 8 := rfl
          have : zm (wrW w3 2 (tI τ3 5)) = zm w3 + 13 := by unfold zm; rw [y1, y2]; omega
          have : zm (wrW w3 2 (tI τ3 5)) = zm w3 + 13 := this
          omega
      · exact k3 (fun _ => adE p (d + 250) _ (fI w 1 p)) (adX p (d + 250) _ (fI w 1 p)) (bad fr3 c3 P3 kd3 S3 F3 (by omega) wr3 dd3 (fun Q k => topT Q ⟨fun y => absurd y z, fun _ => runT3 (fun _ u => pT_add_40 (wpT (e + 11)) _ (tI τ 10) u) k⟩))
  · have D : Dd 1 (tI τ2 5) τ2 := Or.inr ⟨g2, g1, rfl, rfl, g3⟩
    obtain ⟨τ3, ⟨f3, d3, -⟩, run3⟩ := dd_stop (d := e + 9) (k := 2) D (by decide)
    have z : ff_isWord 0 τ2 = 0 := ff_w0 (fun q => by have := q.1; omega)
    exact runC _ (bad fr2 W2 P2' (fun u _ => kd2 u) (S2.trans (KSm.ft f3 (by decide))) (F2'.trans (f3.mono (by decide))) (by omega) wr d3 (fun Q k => topT Q ⟨fun _ => run3 _ k, fun y => absurd z y⟩))
end ZAdd2
