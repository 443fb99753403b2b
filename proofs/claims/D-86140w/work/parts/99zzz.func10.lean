/-! a function, both: read -/
section ZFunc10
variable {p b e d : Nat} {w : CW} {τ : TW}
theorem UFo.fnt {nf : Nat} (n12 : nf < 12) : UFo τ (fnT τ nf) nf := by
  have F := fnT_ft τ nf
  obtain ⟨q1, q2⟩ := fnT_at τ nf
  have g : ∀ h, 10 ≤ h → h ≠ 41 → h ≠ 42 → h ≠ 43 → h ≠ 45 → ∀ x, tA (fnT τ nf) h x = tA τ h x := fun h h0 h1 h2 h3 h4 => (F h (by simp only [List.mem_cons, List.not_mem_nil, or_false]; omega)).2
  refine ⟨fun f' i' h1 h2 => ⟨by rw [np_ft F (by decide)]; exact Nat.le_refl _, fun h h1 h2 x _ => g h (by omega) (by omega) (by omega) (by omega) (by omega) _, fun h hh => g h (by omega) (by omega) (by omega) (by omega) (by omega) _, fun x _ => (F 30 (by decide)).2 _, fun x _ => ⟨(F 50 (by decide)).2 _, (F 51 (by decide)).2 _⟩, fun x _ => (F 52 (by decide)).2 _, fun x _ => ⟨(F 59 (by decide)).2 _, (F 60 (by decide)).2 _⟩, by rw [(q2 f').2.1, if_neg h2], fun x _ => (F 44 (by decide)).2 _⟩, fun y hy => by rw [(q2 y).2.2, if_neg hy]⟩
theorem fn_head {h pl : Int} (D : Dd h pl τ) (h0 : tI τ 7 = 0) : DD [7, 8] h pl (fun (Q : Unit → TW → Prop) => ((tI τ 3) = 1 → wpT (e + 10) 22 [al (tI τ 4)] τ (zqI (fun v4 u3 => (v4 = (-4) → ((tI u3 41) = 12 → wpT (e + 10) 13 [ai 9, ai (tI u3 5)] u3 (zqV (fun u51 => pT_readFunction_64 (wpT (e + 10)) (fun w => Q () w) u51) zno)) ∧ (¬ ((tI u3 41) = 12) → pT_readFunction_64 (wpT (e + 10)) (fun w => Q () w) u3)) ∧ (¬ (v4 = (-4)) → wpT (e + 10) 13 [ai 3, ai (tI u3 5)] u3 (zqV (fun u52 => pT_readFunction_64 (wpT (e + 10)) (fun w => Q () w) u52) zno))) zno)) ∧ (¬ ((tI τ 3) = 1) → wpT (e + 10) 12 [ai 2] τ (zqV (fun u53 => pT_readFunction_64 (wpT (e + 10)) (fun w => Q () w) u53) zno))) τ := by
  have hs := (D.ns h0 0).2.2
  obtain ⟨σ', ⟨a, bb, c⟩, run⟩ := dd_stop (d := e + 8) (k := 2) D (by decide)
  exact DD.pre (tm' := fun (Q : Unit → TW → Prop) => pT_readFunction_64 (wpT (e + 10)) (fun w => Q () w) σ') (S1 := [7, 8]) a (fun Q k => br0 (by omega) (run _ k)) (fn64_dead (e := e) bb c)
theorem pr_function {M : Nat} (hFS : FS p w τ) (hFN : FN p w τ) (h0 : tI τ 3 ≠ 0) (hR : Rm 12000 w τ) :
    OUT p [fR w 5 p, fR w 15 p, fR w 16 p] SPD SPX (-40000) 2000 (fun (_ : Unit) (_ : Unit) w' τ' => FS p w' τ' ∧ FN p w' τ' ∧ nF τ' = nF τ + 1) (fun Q X => wpC p (M + 41) 19 [ar p] w (zqV (Q ()) X)) (fun Q => wpT (e + 11) 21 [] τ (zqV (Q ()) zno)) w τ := by
  have rb := hFS.1
  obtain ⟨nf, hnf⟩ : ∃ nf, nf = nF τ := ⟨_, rfl⟩
  have in1 : ∀ g, g ∈ [9, 10, 11, 12, 13, 14] → g ∈ SPD := by decide
  have in2 : ∀ g, g ∈ [2, 3, 4, 5, 6] → g ∈ SPX := by decide
  have in78 : ∀ g, g ∈ [7, 8] → g ∈ SPX := by decide
  have l5 := rb.1.le (r := fR w 5 p) (by rw [hFN.1.1]; decide)
  -- an outcome told by its inner end
  have key : OUTb p (cz w) [fR w 5 p, fR w 15 p, fR w 16 p] SPD SPX (-40000) 2000 (fun (_ : Unit) (_ : Unit) w' τ' => nf < 12 ∧ ∃ v F, (∀ k : Nat, k < nf → tA τ 42 k ≠ v) ∧ FNi p nf F v w τ w' τ') (fun Q X => wpC p (M + 41) 19 [ar p] w (zqV (Q ()) X)) (fun Q => wpT (e + 11) 21 [] τ (zqV (Q ()) zno)) w τ := by
    refine OUTb.bVV hR (OUT.nx1 (d := M + 28) (e := e + 6) rb h0 (hR.le (by decide))) (fun Q X h => wC_X0_readFunction (Nat.zero_le _) (bC_X0_readFunction_0 h)) (fun Q h => wT_readFunction (by omega) (bT_readFunction_0 h)) (fun _ _ u1 σ1 rb1 n1 k1 hR1 => ?_) (fun h pl σ1 D F1 => (fn_head (e := e) D ((F1 7 (by decide)).1.trans rb.f0)).mono in78) (hS := in1) (hS' := in2)
    have FS1 := hFS.nx k1 rb1
    obtain ⟨FN1, en1, p51, a51⟩ := hFN.nx hFS.2.1.1 rb.1 k1
    have F1 := k1.2.2.2.1
    have K1 := FS1.2.1
    have k0 : 0 ≤ tI σ1 10 := K1.2.2.1
    have k24 : tI σ1 10 ≤ 24 := K1.2.2.2.1
    have ty : fI u1 10 p = tI σ1 3 := rb1.ty
    have hroom := Rm.room rb1 hR1 (k := 1) (n := 8) (by decide)
    have p15 : fR u1 15 p = fR w 15 p := (k1.2.1 15 (by decide)).2
    have p16 : fR u1 16 p = fR w 16 p := (k1.2.1 16 (by decide)).2
    by_cases h1 : tI σ1 3 = 1
    · have e41 : tI σ1 41 = nF σ1 := FN1.2.2.1
      have n12 : nF σ1 ≤ 12 := FN1.2.2.2.1
      have hwd : fI u1 12 p = tI σ1 4 := rb1.wd (Or.inl h1)
      rcases fnN_spec (τ := σ1) (tI σ1 4) (nF σ1) with ⟨y1, y2⟩ | ⟨k, y1, y2, y3⟩
      · have hB : fnB σ1 (tI σ1 4) = -4 := y1
        by_cases z12 : nF σ1 = 12
        · obtain ⟨σ', ⟨a, bb, c⟩, run⟩ := RB.fails (e := e + 9) rb1 (k := 9) (pl := tI σ1 5) (by decide)
          refine OUTb.thr (how := 9) (pl := tI σ1 5) rb1 (fun Q X h => fa (sC_want (d := M + 38) (v := if fI u1 10 p = 1 then 1 else 0) (by rw [if_pos (ty.trans h1)]; decide) (sC_functionOf (d := M + 39) FN1.nm 0 (Or.inl ⟨by rw [hwd]; exact hB, rfl⟩) (fa (sC_needOk (d := M + 39) (by decide) (fa (rb1.needNo (d := M + 36) (if_neg (by rw [FN1.2.1, z12]; decide)) hroom h))))))) (DD.mono (S1 := [7, 8]) (DD.pre (tm' := fun (Q : Unit → TW → Prop) => pT_readFunction_64 (wpT (e + 10)) (fun w => Q () w) σ') (S1 := [7, 8]) a (fun Q k => br1 h1 (sT_functionOf (d := e + 9) e41 n12 (br1 hB (br1 (by rw [e41, z12]; rfl) (run _ k))))) (fn64_dead (e := e) bb c)) in78)
        · -- a new one
          have nf12 : nf < 12 := by omega
          have enf : nF σ1 = nf := by omega
          obtain ⟨F, hF⟩ : ∃ F, F = cz u1 + 1 := ⟨_, rfl⟩
          obtain ⟨u2, hu2⟩ : ∃ u2, u2 = fuW u1 p nf (fI u1 12 p) := ⟨_, rfl⟩
          obtain ⟨σ2, hσ2⟩ : ∃ σ2, σ2 = fnT σ1 nf := ⟨_, rfl⟩
          have l51 := rb1.1.le (r := fR u1 5 p) (by rw [FN1.1.1]; decide)
          obtain ⟨q1, q2, q3, q4, q5⟩ := fuW_fr (p := p) rb1.1 nf nf12 (fI u1 12 p)
          obtain ⟨⟨t1, t2, t3, t4, t5, t6, t7⟩, ⟨v1, v2, v3, v4, v5⟩, ⟨v6, v7, v8, v9⟩, v10, v11⟩ := fuW_at (p := p) rb1.1 l51 nf (fI u1 12 p)
          rw [← hu2] at q1 q2 q3 q4 q5 t1 t2 t3 t4 t5 t6 t7 v1 v2 v3 v4 v5 v6 v7 v8 v9 v10 v11
          rw [← hF] at t1 v1 v2 v3 v4 v5 v6 v7 v8 v9
          obtain ⟨w41, w42⟩ := fnT_at σ1 nf
          rw [← hσ2] at w41 w42
          have F2 : FT [41, 42, 43, 45] σ1 σ2 := by rw [hσ2]; exact fnT_ft _ _
          have hr45 : R45 σ2 := fun f hf => by
            rw [w41] at hf
            rw [(w42 f).2.2]
            by_cases zf : f = nf
            · rw [if_pos zf]; decide
            · rw [if_neg zf]; exact rb1.r45 f (by rw [e41, enf]; omega)
          have hroom4 := Rm.room rb1 hR1 (k := 4) (n := 932) (by decide)
          refine OUTb.cM (T1 := [fR u1 5 p]) (S1 := [6]) (k := 952) (w' := u2) (cm' := fun Q X => wpC p (M + 40) 4 [ar p] u2 (zqV (fun u22 => wpC p (M + 40) 16 [ar p, ai 40] u22 (zqI (fun v25 u24 => wpC p (M + 40) 14 [ar p, ai v25] u24 (zqV (fun u26 => pC_X0_readFunction_121 p (wpC p (M + 40)) (fun w => Q () w) (fun x w => X x w) F u26) (fun x83 u84 => X x83 u84))) zno)) (fun x85 u86 => X x85 u86))) hR1 rb1 q1 q2 q3 (by unfold zm; rw [q4, q5]; omega) (by decide) (fun Q X h => fa (sC_want (d := M + 38) (v := if fI u1 10 p = 1 then 1 else 0) (by rw [if_pos (ty.trans h1)]; decide) (sC_functionOf (d := M + 39) FN1.nm 0 (Or.inl ⟨by rw [hwd]; exact hB, rfl⟩) (fa (sC_needOk (d := M + 39) (by decide) (fa (sC_needOk (d := M + 39) (by rw [if_pos (by rw [FN1.2.1]; omega)]; decide) (fuW_run (d := M + 39) (nf := nf) rb1.1 FN1.1 (by rw [FN1.2.1, enf]) nf12 hu2 hroom4 (by rw [← hF]; exact h))))))))) (fun r hr => ?_) (fun rb2 c2 hR2 => ?_)
          · rw [List.mem_singleton.mp hr]
            exact ⟨Or.inl (by rw [p51]; simp), by have := FN1.1.2.2.1; omega, Or.inr ⟨by rw [FN1.1.1]; decide, l51⟩⟩
          have rb2' : RB p u2 σ2 := rb2.wr F2 (by decide) hr45
          have c2' : CF p [] [] [41, 42, 43, 45] u2 σ1 u2 σ2 := ⟨Fr.refl _ _, PF.refl _ _ _, q3, F2, Int.le_of_eq (F2 5 (by decide)).1.symm, (F2 1 (by decide)).1⟩
          refine OUTb.al (a1 := 0) (cm' := fun Q X => wpC p (M + 40) 4 [ar p] u2 (zqV (fun u22 => wpC p (M + 40) 16 [ar p, ai 40] u22 (zqI (fun v25 u24 => wpC p (M + 40) 14 [ar p, ai v25] u24 (zqV (fun u26 => pC_X0_readFunction_121 p (wpC p (M + 40)) (fun w => Q () w) (fun x w => X x w) F u26) (fun x83 u84 => X x83 u84))) zno)) (fun x85 u86 => X x85 u86))) (tm' := fun Q => wpT (e + 10) 4 [] σ2 (zqV (fun u16 => wpT (e + 10) 20 [ai 40] u16 (zqV (fun u17 => pT_readFunction_123 (wpT (e + 10)) (fun w => Q () w) nf 1 u17) zno)) zno)) hR2 c2' (by rw [pot_ft F2 (by decide) (by decide)]; omega) (fun Q X h => h) (fun Q h => br1 h1 (sT_functionOf (d := e + 9) e41 n12 (br1 hB (br0 (by rw [e41]; omega) (sT_fn64 (e := e) rb1.f0 (by rw [e41, enf]) nf12 hσ2 h))))) (fun hR3 => ?_) (hS' := by decide)
          have z3 : tI σ2 3 ≠ 0 := by rw [(F2 3 (by decide)).1, h1]; decide
          -- the state of the new one
          have NA2 : NA p u2 := by
            obtain ⟨⟨k1, k2, k3, k4⟩, k5, k6, k7, k8⟩ := FS1.2.2.1
            have t15 := q1.2.2.2.1 (fR u1 15 p) (rb1.1.le (by rw [show tg u1 (fR u1 15 p) = 103 from k1]; decide))
            have t16 := q1.2.2.2.1 (fR u1 16 p) (rb1.1.le (by rw [show tg u1 (fR u1 16 p) = 102 from k5]; decide))
            have e15 := (q2 15 (by decide)).2
            have e16 := (q2 16 (by decide)).2
            unfold NA
            rw [e15, e16]
            exact ⟨⟨t15.1.trans k1, t15.2.trans k2, k3, k4⟩, t16.1.trans k5, t16.2.trans k6, k7, k8⟩
          have K2 : KR p u2 σ2 := KR.fr2 rb1.1 K1 q1 ⟨(q2 0 (by decide)).2, (q2 1 (by decide)).1⟩ (fun r hr => by
            have k0' : tg u1 (fR u1 0 p) = 112 := K1.1.1
            have kp : p < fR u1 0 p := K1.1.2.2.1
            simp only [List.mem_cons, List.not_mem_nil, or_false] at hr
            rcases hr with hr | hr
            · exact Or.inl ⟨by omega, by omega⟩
            · refine Or.inl ⟨by rw [hr]; exact FN1.1.2.2.2, fun y => ?_⟩
              rw [hr] at y
              rw [← y, FN1.1.1] at k0'
              cases k0') F2 (by decide)
          have np2 : np σ2 = np σ1 := np_ft F2 (by decide)
          have pz : p + 8 ≤ cz u1 := K1.1.2.2.2.2
          have G2 : GCn p u2 σ2 nf F 0 := by
            refine ⟨⟨rb2', K2, NA2, by rw [(F2 16 (by decide)).1, np2]; exact FS1.2.2.2.1, by rw [np2, (F2 5 (by decide)).1]; exact FS1.2.2.2.2⟩, ⟨⟨t1, by omega, v1, by rw [v2, (w42 nf).1, if_pos rfl, hwd], v9⟩, ⟨by rw [v6, hF], ⟨by rw [hF]; exact t2, by rw [hF]; exact t3, by omega⟩⟩, ⟨by rw [v7, hF], by rw [hF]; exact t4, by rw [hF]; exact t5⟩, ⟨by rw [v8, hF], by rw [hF]; exact t6, by rw [hF]; exact t7⟩⟩, ⟨by rw [(w42 nf).2.1, if_pos rfl]; rfl, v3, by decide, fun j hj => by omega⟩, ⟨by rw [(w42 nf).2.2, if_pos rfl], v4⟩, v5, nf12, by rw [w41]; omega⟩
          have hU2 : UFo σ1 σ2 nf := by rw [hσ2]; exact UFo.fnt nf12
          refine OUTb.bVV hR3 (OUT.nx1 (d := M + 28) (e := e + 6) rb2' z3 (hR3.le (by decide))) (fun Q X h => h) (fun Q h => h) (fun _ _ u3 σ3 rb3 n3 k3 hR4 => ?_) (fun h pl σ3 D F3 => (fn_dead40 (e := e) D nf12 (by rw [(F3 10 (by decide)).1, (F2 10 (by decide)).1]; exact k0) (by rw [(F3 10 (by decide)).1, (F2 10 (by decide)).1]; exact k24)).mono in78) (hS := in1) (hS' := in2)
          have G3 := G2.nx k3 rb3
          have F3 := k3.2.2.2.1
          have hroom3 := Rm.room rb3 hR4 (k := 1) (n := 8) (by decide)
          by_cases z40 : ff_isSign 40 σ3 = 0
          · obtain ⟨σ4, ⟨a4, b4, c4⟩, run4⟩ := RB.must (e := e + 4) rb3 z40
            refine OUTb.thr (how := 2) (pl := tI σ3 5) rb3 (fun Q X h => sR_isSign (d := M + 39) rb3 (by decide) (rb3.wantNo (d := M + 35) z40 hroom3 h)) (DD.mono (S1 := [7, 8]) (DD.pre (tm' := fun (Q : Unit → TW → Prop) => pT_readFunction_123 (wpT (e + 10)) (fun w => Q () w) nf 1 σ4) (S1 := [7, 8]) a4 (fun Q k => run4 _ k) ?_) in78)
            rw [pT_uf123']
            exact uf_dead (e := e) b4 nf12 (by rw [(a4 10 (by decide)).1, (F3 10 (by decide)).1, (F2 10 (by decide)).1]; exact k0) (by rw [(a4 10 (by decide)).1, (F3 10 (by decide)).1, (F2 10 (by decide)).1]; exact k24)
          · refine OUTb.cc (cm' := cmG (ufLC p (M + 40) F) (fun (_ : Unit → CW → Prop) (_ : Nat → CW → Prop) I => I u3)) (fun Q X h => sR_isSign (d := M + 39) rb3 (by decide) (sC_want (d := M + 38) z40 h)) ?_
            refine OUTb.kT (F' := fun Q X I => wpC p (M + 40) 4 [ar p] u3 (zqV (fun u28 => ufC p (wpC p (M + 40)) (fun w => Q () w) (fun x w => X x w) F I u28) (fun x81 u82 => X x81 u82))) (fun Q X I l k => l u3 k) ?_
            refine OUTb.gVC hR4 (OUT.mn (d := M + 28) (e := e + 4) (T := []) (S := [9, 10, 11, 12, 13, 14]) (S' := [2, 3, 4, 5, 6]) (c := 40) rb3 z40 (fun f hf => hf) (fun f hf => hf) (hR4.le (by decide))) (fun Q X I l k => k) (fun Q h => h) (fun _ _ u4 σ4 rb4 n4 k4 hR5 => ?_) (fun h pl σ4 D F4 => ?_) (hS := in1) (hS' := in2)
            · have G4 := G3.nx k4 rb4
              have F4 := k4.2.2.2.1
              have enpz : np σ4 = np τ := (np_ft F4 (by decide)).trans ((np_ft F3 (by decide)).trans ((np_ft F2 (by decide)).trans (np_ft F1 (by decide))))
              have hz1 := k1.1.1
              have hz2 := q4
              have hz3 := k3.1.1
              have hz4 := k4.1.1
              refine OUTb.tt (tm' := tmL (ufLT (e + 10) nf) (fun (_ : Unit → TW → Prop) I => I 1 σ4)) (fun Q h => h) ?_
              have o5 : ob u4 (fR u1 5 p) = ob u2 (fR u1 5 p) := by
                have x3 := k3.1.2.2.2.2 (fR u1 5 p) (by omega) (by have := FN1.1.2.2.1; simp; omega)
                have x4 := k4.1.2.2.2.2 (fR u1 5 p) (by omega) (by have := FN1.1.2.2.1; simp; omega)
                exact x4.trans x3
              have p54 : fR u4 5 p = fR w 5 p := by rw [(k4.2.1 5 (by decide)).2, (k3.2.1 5 (by decide)).2, (q2 5 (by decide)).2, p51]
              have n15 : fR u4 15 p = fR w 15 p ∧ fR u4 16 p = fR w 16 p := ⟨by rw [(k4.2.1 15 (by decide)).2, (k3.2.1 15 (by decide)).2, (q2 15 (by decide)).2, p15], by rw [(k4.2.1 16 (by decide)).2, (k3.2.1 16 (by decide)).2, (q2 16 (by decide)).2, p16]⟩
              have p64 : fI u4 6 p = (nf + 1 : Nat) := by rw [(k4.2.1 6 (by decide)).1, (k3.2.1 6 (by decide)).1]; exact v10
              refine OUTb.le (a' := -23600) (t' := 700) ?_
              refine OUTb.ts (T1 := [fR w 15 p, fR w 16 p, F, F + 1, F + 2]) (S1 := SPC) (S1' := SPV) (OUTb.nn (uf_loop (e := e) (M := M) (b := cz w) ⟨by simp, by simp, by simp, by simp, by simp⟩ (fun g hg => hg) (fun g hg => hg) 3 0 u4 σ4 (by decide) G4 n15 (hR5.le (by decide))) (fun v v' w' τ' _ cc n => ⟨nf12, tI σ1 4, F, fun k hk => ?_, enpz ▸ n.1, ?_, ?_, fun j => ?_, ?_, fun y => ?_, ?_, by omega⟩)) (fun r hr => ?_) (by decide) (by decide)
              · rw [← (F1 42 (by decide)).2]; exact y2 k (by omega)
              · exact ((((UFo.ft F1 (by decide) nf).trans hU2).trans (UFo.ft F3 (by decide) nf)).trans (UFo.ft F4 (by decide) nf)).trans n.2
              · rw [(cc.2.1 6 (by decide)).1]; exact p64
              · have hA5 := hFN.1.2.2
                have hA15 := FS1.2.2.1.1
                have hA16 := FS1.2.2.1.2
                have x5 := cc.1.2.2.2.2 (fR w 5 p) l5 (fun y => by
                  have y5 : tg w (fR w 5 p) = 111 := hFN.1.1
                  have y15 : tg w (fR w 15 p) = 103 := hFS.2.2.1.1.1
                  have y16 : tg w (fR w 16 p) = 102 := hFS.2.2.1.2.1
                  simp only [List.mem_cons, List.not_mem_nil, or_false] at y
                  rcases y with y | y | y | y | y | y
                  · omega
                  · rw [y, y15] at y5; cases y5
                  · rw [y, y16] at y5; cases y5
                  · omega
                  · omega
                  · omega)
                rw [ob.eaR x5, ← p51, ob.eaR o5, v11 j, p51, a51 j, hF]
              · rw [(cc.2.2.2.1 41 (by decide)).1, (F4 41 (by decide)).1, (F3 41 (by decide)).1]; exact w41
              · rw [(cc.2.2.2.1 42 (by decide)).2, (F4 42 (by decide)).2, (F3 42 (by decide)).2, (w42 y).1, (F1 42 (by decide)).2]
              · rw [(cc.2.1 5 (by decide)).2]; exact p54
              · simp only [List.mem_cons, List.not_mem_nil, or_false] at hr ⊢
                omega
            · rw [pT_uf123']
              exact (uf_dead (e := e) D nf12 (by rw [(F4 10 (by decide)).1, (F3 10 (by decide)).1, (F2 10 (by decide)).1]; exact k0) (by rw [(F4 10 (by decide)).1, (F3 10 (by decide)).1, (F2 10 (by decide)).1]; exact k24)).mono in78
      · have hB : fnB σ1 (tI σ1 4) = k := y2
        obtain ⟨σ', ⟨a, bb, c⟩, run⟩ := RB.fails (e := e + 9) rb1 (k := 3) (pl := tI σ1 5) (by decide)
        have hr0 : fnr u1 p k ≠ 0 := by
          intro y
          have := (FN1.nm.2.2.2.1 k y1).1
          rw [y, rb1.1.1] at this
          cases this
        refine OUTb.thr (how := 3) (pl := tI σ1 5) rb1 (fun Q X h => fa (sC_want (d := M + 38) (v := if fI u1 10 p = 1 then 1 else 0) (by rw [if_pos (ty.trans h1)]; decide) (sC_functionOf (d := M + 39) FN1.nm (fnr u1 p k) (Or.inr ⟨k, by rw [hwd]; exact hB, y1, rfl⟩) (fa (rb1.needNo (d := M + 36) (if_neg hr0) hroom h))))) (DD.mono (S1 := [7, 8]) (DD.pre (tm' := fun (Q : Unit → TW → Prop) => pT_readFunction_64 (wpT (e + 10)) (fun w => Q () w) σ') (S1 := [7, 8]) a (fun Q kk => br1 h1 (sT_functionOf (d := e + 9) e41 n12 (br0 (by rw [hB]; omega) (run _ kk)))) (fn64_dead (e := e) bb c)) in78)
    · obtain ⟨σ', ⟨a, bb, c⟩, run⟩ := RB.stop (e := e + 8) rb1 (k := 2) (by decide)
      exact OUTb.thr (how := 2) (pl := tI σ1 5) rb1 (fun Q X h => fa (rb1.wantNo (d := M + 35) (if_neg (by rw [ty]; exact h1)) hroom h)) (DD.mono (S1 := [7, 8]) (DD.pre (tm' := fun (Q : Unit → TW → Prop) => pT_readFunction_64 (wpT (e + 10)) (fun w => Q () w) σ') (S1 := [7, 8]) a (fun Q k => br0 h1 (run _ k)) (fn64_dead (e := e) bb c)) in78)
  refine OUTb.go (key.nn (fun v v' w' τ' _ c n => ?_))
  obtain ⟨n1, x, F, n2, n3⟩ := n
  obtain ⟨m1, m2⟩ := FNi.fn hFN hFS hnf.symm n1 n2 n3 c
  exact ⟨m1, m2, by unfold nF; rw [n3.2.2.2.2.1]; show nf + 1 = _; rw [hnf]; rfl⟩
end ZFunc10
