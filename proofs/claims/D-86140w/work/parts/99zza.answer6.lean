/-! an answer of a rule, both: the three ways together -/
section ZAnswer6
variable {p b e d : Nat} {w : CW} {τ : TW}
theorem nxFrom {w' : CW} {τ' : TW} {p : Nat} {T S S' : List Nat} (hc : CF p T S S' w τ w' τ') (hp : pot w' τ' ≤ pot w τ + (-5900)) : tI τ 5 + 1 ≤ tI τ' 5 := by
  have z1 := hc.1.1
  have z2 := hc.1.2.1
  have z3 := hc.2.2.2.2.2
  unfold pot zm at hp
  rw [z3] at hp
  have e1 : tI τ' 5 = tI τ' 5 := rfl
  have e2 : tI τ 5 = tI τ 5 := rfl
  omega
theorem an_dead {h pl : Int} (D : Dd h pl τ) : DD [7, 8] h pl (tmL (anLT (e + 6)) (fun (_ : Unit → TW → Prop) I => I 1 τ)) τ := by
  by_cases zf : tI τ 7 = 0
  · have hs := D.ns zf 0
    exact DD.gT (G' := fun Q _ => wpT (e + 6) 12 [ai 2] τ (zqV (fun u => Q () u) zno)) (fun Q I l k => l 1 τ (br1 ⟨by decide, zf⟩ (br0 (by rw [hs.2.2]; decide) (bT_readAnswer_221 k)))) (DD.gO ((D.stop (e := e + 4) (by decide)).mono))
  · exact DD.gT (G' := fun Q _ => wpT (e + 6) 20 [ai 41] τ (zqV (fun u => Q () u) zno)) (fun Q I l k => l 1 τ (br0 (fun y => zf y.2) (bT_readAnswer_329 k))) (DD.gO ((D.must (e := e + 2)).mono))
theorem pr_answer {x : Nat} (hb : b ≤ cz w) (rb : RB p w τ) (hN : NmR p w τ) (hx : tg w x = 5) (hpx : p + 8 < x) (hpb : p + 8 ≤ cz w) (i62 : fR w 62 x = 0) (i61 : fI w 61 x = -1) (hR : Rm 400 w τ) :
    OUTb p b [x] [9, 10, 11, 12, 13, 14] [2, 3, 4, 5, 6, 7, 8, 54, 55, 56, 57, 58, 59, 60] (-2000) 100 (fun (_ : Unit) (_ : Unit) w' τ' => AnR (bdB τ) (SnR τ) p b w' τ' x (nR τ) ∧ AnK w w' τ τ' x (nR τ)) (fun Q X => wpC p (d + 16) 39 [ar p, ar x] w (zqV (Q ()) X)) (fun Q => wpT (e + 7) 42 [] τ (zqV (Q ()) zno)) w τ := by
  have ty : fI w 10 p = tI τ 3 := rb.ty
  have hroom := Rm.room rb hR (k := 1) (n := 8) (by decide)
  have r192 := hN.2.2.1
  have n8 := hN.2.2.2.2.1
  have r27 : tI τ 27 = nR τ := hN.2.1
  have lx := rb.1.le (r := x) (by rw [hx]; decide)
  by_cases h1 : tI τ 3 = 1
  · obtain ⟨σ6, F6, s56, s57, s58, o6, go⟩ := ans_go (e := e) hN h1
    have F6e := F6.mono (S' := [54, 55, 56, 57, 58]) (by decide)
    have rb6 := rb.ft F6 (by decide)
    have N6 := hN.ft F6 (by decide)
    have bt6 : bt σ6 = bt τ := funext (bt_eq (F6 1 (by decide)).1 (F6 0 (by decide)).2)
    have p6 : pot w σ6 = pot w τ := pot_ft F6 (by decide) (by decide)
    have hR6 : Rm 400 w σ6 := by
      unfold Rm
      rw [p6]
      exact hR
    have s3 : tI σ6 3 = 1 := (F6 3 (by decide)).1.trans h1
    have e6t : tI σ6 6 = tI τ 6 := (F6 6 (by decide)).1
    obtain ⟨wa, τa, ca, pa, La, runa, ga⟩ := nxL (d := d + 3) (e := e + 2) (T := []) (S := [9, 10, 11, 12, 13, 14]) (S' := [2, 3, 4, 5, 6]) rb6 (by show tI σ6 3 ≠ 0; omega) (fun f hf => hf) (fun f hf => hf) (hR6.le (by decide))
    have peek : ∀ Q : ZRes → CW → Prop, Q (.inl (some (ai (ff_isSign 40 τa)))) w → wpC p (d + 15) 40 [ar p] w Q := fun Q hQ => peekL (d := d + 13) rb6 La hQ
    by_cases s40 : ff_isSign 40 τa = 0
    · -- a name alone
      have cmN : ∀ (Q : Unit → CW → Prop) (X : Nat → CW → Prop), wpC p (d + 15) 37 [ar p] w (zqI (fun v63 u62 => (hP 61 (tg u62 x) = true) ∧ ∀ u64 : CW, u64 = pI u62 61 x v63 → wpC p (d + 15) 4 [ar p] u64 (zqV (fun u66 => Q () u66) (fun x68 u69 => X x68 u69))) (fun x70 u71 => X x70 u71)) → wpC p (d + 16) 39 [ar p, ar x] w (zqV (Q ()) X) := fun Q X h => wC_X0_answer (Nat.zero_le _) (bC_X0_answer_0 (br1 (ty.trans h1) (peek _ (br1 s40 h))))
      rcases sC_wholeCases (d := d + 9) rb hN h1 hroom with ⟨n, n1, n2, n3, n4, kn⟩ | ⟨n, n1, n2, n3, n4, kn⟩ | ⟨n1, kn⟩
      · obtain ⟨w1, hw1⟩ : ∃ w1, w1 = pI w 61 x n := ⟨_, rfl⟩
        have rb1 : RB p w1 σ6 := by
          refine rb6.st (T := [x]) (S := []) (w' := w1) ?_ ?_ ?_ (by decide) (fun r hr => ?_)
          · rw [hw1]; exact (Fr.refl _ _).spI (Or.inl (by simp))
          · rw [hw1]; exact (PF.refl _ _ _).spI (Or.inr (by omega))
          · rw [hw1]; exact rb.1.spI _ _ _
          · rw [List.mem_singleton.mp hr]
            exact ⟨by omega, Or.inr ⟨by rw [hx]; decide, lx⟩⟩
        have hR1 : Rm 400 w1 σ6 := by
          have e1 : pot w1 σ6 = pot w σ6 := by rw [hw1]; rfl
          unfold Rm
          rw [e1, hw1]
          exact hR6
        obtain ⟨wb, τb, cb, pb, Lb, runb, gb⟩ := nxL (d := d + 3) (e := e + 2) (T := []) (S := [9, 10, 11, 12, 13, 14]) (S' := [2, 3, 4, 5, 6]) rb1 (by show tI σ6 3 ≠ 0; omega) (fun f hf => hf) (fun f hf => hf) (hR1.le (by decide))
        have s40b : ff_isSign 40 τb = 0 := by rw [Lx_same Lb La]; exact s40
        have cm1 : ∀ (Q : Unit → CW → Prop) (X : Nat → CW → Prop), wpC p (d + 15) 4 [ar p] w1 (zqV (fun u66 => Q () u66) (fun x68 u69 => X x68 u69)) → wpC p (d + 16) 39 [ar p, ar x] w (zqV (Q ()) X) := fun Q X h => cmN Q X (kn _ ⟨by rw [hx]; decide, fun u hu => by rw [hu, ← hw1]; exact h⟩)
        refine ((OUT.B (b := b) (ans_yes (cm := fun Q X => wpC p (d + 16) 39 [ar p, ar x] w (zqV (Q ()) X)) rb hN hx hpx hw1 F6 cb pb runb s40b n1 n2 n3 n4 o6 ?_ go)).nn (fun v v' w' τ' _ cc n => ?_)).ts.le
        · rcases gb with ⟨g1, g2⟩ | ⟨h, pl, y, g1, g2, g3⟩
          · exact Or.inl ⟨g1, fun Q X hQ => cm1 Q X (g2 _ hQ)⟩
          · exact Or.inr ⟨h, pl, y, g1, g2, fun Q X hX => cm1 Q X (g3 _ hX)⟩
        · obtain ⟨a1, a2, a3, a4, a5, a6⟩ := n
          exact ⟨Or.inr (Or.inl ⟨a1, by rw [a5]; exact i62, n, by omega, ⟨n2, n3⟩, n4, a3, a2⟩), fun f hf => ⟨a4 f (by omega), a5 f⟩, fun f hf y hy => a6 f (by omega) y hy, fun y hy => ⟨(cc.2.2.2.1 59 (by decide)).2 _, (cc.2.2.2.1 60 (by decide)).2 _⟩⟩
      · exact ((OUT.B (b := b) (ans_no (S := [9, 10, 11, 12, 13, 14]) (T := []) (a0 := -2000) (t0 := 100) (cm := fun Q X => wpC p (d + 16) 39 [ar p, ar x] w (zqV (Q ()) X)) (k := 5) rb hN F6 ca.2.2.2.1 (by have := ca.2.2.2.2.1; have z := (F6 5 (by decide)).1; have q1 : tI σ6 5 = tI σ6 5 := rfl; have q2 : tI τa 5 = tI τa 5 := rfl; omega) runa s40 (by decide) (fun Q X hX => cmN Q X (kn _ hX)) (Or.inr ⟨rfl, n, n1, n2, n3, n4⟩) go))).ts
      · exact ((OUT.B (b := b) (ans_no (S := [9, 10, 11, 12, 13, 14]) (T := []) (a0 := -2000) (t0 := 100) (cm := fun Q X => wpC p (d + 16) 39 [ar p, ar x] w (zqV (Q ()) X)) (k := 4) rb hN F6 ca.2.2.2.1 (by have := ca.2.2.2.2.1; have z := (F6 5 (by decide)).1; have q1 : tI σ6 5 = tI σ6 5 := rfl; have q2 : tI τa 5 = tI τa 5 := rfl; omega) runa s40 (by decide) (fun Q X hX => cmN Q X (kn _ hX)) (Or.inl ⟨rfl, n1⟩) go))).ts
    · -- a call
      have g11 : fI (pI w 63 x (fI w 12 p)) 11 p = fI w 11 p := fI_of _ _ _ _ (by decide)
      have px : p ≠ x := by omega
      refine OUTb.cw (T1 := [x]) (S1 := []) (k := 0) hR rb (pI (pI w 63 x (fI w 12 p)) 64 x (fI (pI w 63 x (fI w 12 p)) 11 p)) (((Fr.refl _ _).spI (Or.inl (by simp))).spI (Or.inl (by simp))) (((PF.refl _ _ _).spI (Or.inr px)).spI (Or.inr px)) ((rb.1.spI _ _ _).spI _ _ _) (Int.le_refl _) (by decide) (fun Q X h => wC_X0_answer (Nat.zero_le _) (bC_X0_answer_0 (br1 (ty.trans h1) (peek _ (br0 s40 ⟨by rw [hx]; decide, fa ⟨by show hP 64 (tg w x) = true; rw [hx]; decide, h⟩⟩))))) (fun r hr => by
        rw [List.mem_singleton.mp hr]
        exact ⟨Or.inl (by simp), by omega, Or.inr ⟨by rw [hx]; decide, lx⟩⟩) (fun u2 eu2 rb2 c2 hR2 => ?_)
      refine OUTb.tM (τ' := σ6) (tm' := fun Q => wpT (e + 6) 4 [] σ6 (zqV (fun u11 => ansB (wpT (e + 6)) (fun u => Q () u) (nmB τ (tI τ 4)) (tI τ 5) u11) zno)) hR2 rb2 F6e (fun Q h => go _ h) (fun rb3 hR3 => ?_) 
      obtain ⟨u4, τ4, c4, p4, L4, run4, g4⟩ := nxL (d := d + 3) (e := e + 2) (T := []) (S := [9, 10, 11, 12, 13, 14]) (S' := [2, 3, 4, 5, 6]) rb3 (by show tI σ6 3 ≠ 0; omega) (fun f hf => hf) (fun f hf => hf) (hR3.le (by decide))
      have z40 : ¬ (ff_isSign 40 τ4 = 0) := by rw [Lx_same L4 La]; exact s40
      rcases g4 with ⟨rb4, run4c⟩ | ⟨hh, pl, y, wr, dd, _⟩
      case inr =>
        exfalso
        have f7 : tI τ4 7 = 0 := (c4.2.2.2.1 7 (by decide)).1.trans rb3.f0
        exact z40 (dd.ns f7 40).1
      have N4 := (N6.1.on rb6.1 (c2.trans (S' := []) (T := [x]) (S := []) (CF.refl c2.2.2.1 [] [] []) (fun r hr => by cases hr) (fun f hf => by cases hf) (fun f hf => by cases hf) |> fun c => (⟨c.1, c.2.1, c.2.2.1, FT.refl _ _, Int.le_refl _, rfl⟩ : CF p [x] [] [] w σ6 u2 σ6)) (fun r hr => by rw [List.mem_singleton.mp hr]; exact hpx)).on rb3.1 c4
      have R4 : nR τ4 = nR τ := by rw [nR_ft c4.2.2.2.1 (by decide), nR_ft F6 (by decide)]
      have t27 : tI τ4 27 = nR τ := by rw [← R4]; exact N4.2.1
      refine OUTb.al (a1 := -5900) hR3 c4 p4 (fun Q X h => run4c _ h) (fun Q h => run4 _ (br0 z40 h)) (fun hR4 => ?_)
      refine OUTb.tw (S1 := [54]) hR4 rb4 (sA τ4 54 (nR τ) 2) ((FT.refl _ _).ssA (by decide)) (fun Q h => ⟨by rw [t27]; omega, by rw [t27]; exact h⟩) (fun τ5 e5 rb5 F5 hR5 => ?_)
      have hroom4 := Rm.room rb5 hR5 (k := 2) (n := 1600) (by decide)
      obtain ⟨ha, hha⟩ : ∃ ha, ha = cz u4 + 1 := ⟨_, rfl⟩
      obtain ⟨wh, hwh⟩ : ∃ wh, wh = cz u4 + 2 := ⟨_, rfl⟩
      obtain ⟨u5, hu5⟩ : ∃ u5, u5 = nA (nA u4 102 800) 102 800 := ⟨_, rfl⟩
      have c5z : cz (nA u4 102 800) = cz u4 + 1 := rfl
      refine OUTb.nw (A0 := 2) (B0 := 1600) (k := 1610) (w' := u5) (cm' := fun Q X => pC_X0_answer_72 p (wpC p (d + 15)) (fun w => Q () w) (fun x w => X x w) x ha wh 0 u5) hR5 rb5 (by rw [hu5]; exact ((Fr.refl _ _).snA).snA) (by rw [hu5]; exact (rb5.1.snA 102 800).snA 102 800) (by rw [hu5]; rfl) (by rw [hu5]; rfl) (by decide) (fun Q X h => ⟨⟨⟨by decide, by decide⟩, by omega, by show cu u4 + 800 ≤ mu u4; omega⟩, fa ⟨⟨⟨by decide, by decide⟩, by show cz u4 + 1 + 1 ≤ mz u4; omega, by show cu u4 + 800 + 800 ≤ mu u4; omega⟩, fa (by rw [hu5, hha, hwh] at h; exact h)⟩⟩) (fun rb6 c6 hR6 => ?_)
      refine OUTb.cc (cm' := cmG (anLC p (d + 15) x ha wh) (fun Q X I => I 0 u5)) (fun Q X h => h) ?_
      refine OUTb.kT (F' := fun Q X I => wpC p (d + 15) 4 [ar p] u5 (zqV (fun u15 => anC p (wpC p (d + 15)) (fun w => Q () w) (fun x w => X x w) x ha wh I 0 u15) (fun x58 u59 => X x58 u59))) (fun Q X I l k => l _ _ k) ?_
      have s4 : tI τ5 3 ≠ 0 := by
        rw [(F5 3 (by decide)).1]
        intro y
        exact z40 (ff_s0 (fun q => by omega))
      have hz2 : cz u2 = cz w := by rw [eu2]; rfl
      have hz4 := c4.1.1
      have ox4 := c4.1.2.2.2.2 x (by omega) (by simp; omega)
      have tx4 : tg u4 x = 5 := by rw [ob.etg ox4, eu2]; exact hx
      have fI4 : fI u4 63 x = tI τ 4 ∧ fI u4 64 x = tI τ 5 ∧ (∀ f, f ≠ 63 → f ≠ 64 → fI u4 f x = fI w f x) ∧ ∀ f, fR u4 f x = fR w f x := by
        have wd : fI w 12 p = tI τ 4 := rb.wd (Or.inl h1)
        refine ⟨?_, ?_, fun f a1 a2 => ?_, fun f => ?_⟩
        · rw [ob.efI ox4, eu2, fI_of _ _ _ _ (by decide), fI_at]; exact wd
        · rw [ob.efI ox4, eu2, fI_at, g11]; exact rb.pl
        · rw [ob.efI ox4, eu2, fI_of _ _ _ _ a2, fI_of _ _ _ _ a1]
        · rw [ob.efR ox4, eu2]; rfl
      have t5 : ∀ r, r ≤ cz u4 → tg u5 r = tg u4 r ∧ (∀ f, fI u5 f r = fI u4 f r) ∧ (∀ f, fR u5 f r = fR u4 f r) := fun r hr => ⟨by rw [hu5, tg_nA, c5z, if_neg (by omega), tg_nA, if_neg (by omega)], fun f => by rw [hu5]; rfl, fun f => by rw [hu5]; rfl⟩
      have hA5 : IArr p u5 ha 800 ∧ IArr p u5 wh 800 := by
        refine ⟨⟨?_, ?_, by omega⟩, ⟨?_, ?_, by omega⟩⟩
        · rw [hu5, hha, tg_nA, c5z, if_neg (by omega), tg_nA, if_pos rfl]
        · rw [hu5, hha, ln_nA, c5z, if_neg (by omega), ln_nA, if_pos rfl]
        · rw [hu5, hwh, tg_nA, c5z, if_pos rfl]
        · rw [hu5, hwh, ln_nA, c5z, if_pos rfl]
      refine OUTb.gVC hR6 (OUT.nx1 (d := d + 3) (e := e + 2) rb6 s4 (hR6.le (by decide))) (fun Q X I l k => k) (fun Q k => k) (fun _ _ u7 τ7 rb7 n7 c7 hR7 => ?_) (fun h pl τ7 D F => (an_dead (e := e) D).mono)
      have F7 := c7.2.2.2.1
      have N7 := ((N4.ft F5 (by decide)).1.on rb5.1 c6).on rb6.1 c7
      have R7 : nR τ7 = nR τ := by rw [nR_ft F7 (by decide), nR_ft F5 (by decide)]; exact R4
      have hz5 : cz u5 = cz u4 + 2 := by rw [hu5]; rfl
      have o7 : ∀ r, r ≤ cz u5 → r ≠ p → ob u7 r = ob u5 r := fun r hr hp => c7.1.2.2.2.2 r hr (by simp; exact hp)
      have ox7 := o7 x (by omega) (by omega)
      have oA7 := o7 ha (by omega) (by omega)
      have oB7 := o7 wh (by omega) (by omega)
      have tx7 : tg u7 x = 5 := by rw [ob.etg ox7, (t5 x (by omega)).1]; exact tx4
      have fr1 := nxFrom c4 p4
      have fr0 : tI σ6 5 = tI τ 5 := (F6 5 (by decide)).1
      have fr5 : tI τ5 5 = tI τ4 5 := (F5 5 (by decide)).1
      have frp : 0 ≤ tI τ 5 := rb.rg.1
      have G7 : ∀ f, 54 ≤ f → f ≠ 54 → ∀ y, tA τ7 f y = tA σ6 f y := fun f h1 h2 y => by
        rw [(F7 f (by simp only [List.mem_cons, List.not_mem_nil, or_false]; omega)).2, (F5 f (by simp only [List.mem_cons, List.not_mem_nil, or_false]; omega)).2, (c4.2.2.2.1 f (by simp only [List.mem_cons, List.not_mem_nil, or_false]; omega)).2]
      have G54 : ∀ y : Nat, tA τ7 54 y = if y = nR τ then 2 else tA τ 54 y := fun y => by
        rw [(F7 54 (by decide)).2, e5, tA_sA, (c4.2.2.2.1 54 (by decide)).2, (F6 54 (by decide)).2]
        by_cases q : y = nR τ
        · rw [if_pos ⟨rfl, by omega⟩, if_pos q]
        · rw [if_neg (by omega), if_neg q]
      refine OUTb.tt (tm' := tmL (anLT (e + 6)) (fun (_ : Unit → TW → Prop) I => I 1 τ7)) (fun Q h => h) ?_
      refine OUTb.le (a' := 2000) (t' := 2100) ?_
      refine ((an_loop (d := d) (e := e) (b := b) (R := nR τ) hpx (by omega : ha ≠ wh) (by omega) (by omega) ((tI τ7 1 - tI τ7 5).toNat) 0 u7 τ7 (Nat.le_refl _) rb7 N7 R7 tx7 ⟨by rw [ob.etg oA7]; exact hA5.1.1, by rw [ob.eln oA7]; exact hA5.1.2.1, hA5.1.2.2⟩ ⟨by rw [ob.etg oB7]; exact hA5.2.1, by rw [ob.eln oB7]; exact hA5.2.2.1, hA5.2.2.2⟩ (by omega) (by rw [G7 58 (by decide) (by decide)]; exact s58) (fun j hj => by omega) (hR7.le (by decide))).nn (fun v v' w' τ' _ cc n => ?_)).ts
      obtain ⟨⟨m, A, C, m1, m2, m3, m4, m5, m6, m7, m8, m9, m10⟩, q2, q3, q4, q5, q6⟩ := n
      have en : nN τ' = nN τ := by rw [nN_ft cc.2.2.2.1 (by decide) (by decide), nN_ft F7 (by decide) (by decide), nN_ft F5 (by decide) (by decide), nN_ft c4.2.2.2.1 (by decide) (by decide), nN_ft F6 (by decide) (by decide)]
      have e31 : tI τ' 31 = tI τ 31 := by rw [(cc.2.2.2.1 31 (by decide)).1, (F7 31 (by decide)).1, (F5 31 (by decide)).1, (c4.2.2.2.1 31 (by decide)).1, (F6 31 (by decide)).1]
      have fx : (∀ f, fI u7 f x = fI u4 f x) ∧ ∀ f, fR u7 f x = fR u4 f x := ⟨fun f => by rw [ob.efI ox7]; exact (t5 x (by omega)).2.1 f, fun f => by rw [ob.efR ox7]; exact (t5 x (by omega)).2.2 f⟩
      refine ⟨Or.inr (Or.inr ⟨?_, ?_, ?_, m, A, C, m1, m2, m3, m4, m5, m6, m7, m8, m9, fun j hj => ?_⟩), fun f hf => ⟨?_, ?_⟩, fun f hf y hy => ?_, fun y hy => ?_⟩
      · rw [q4 54 (Or.inl rfl), G54, if_pos rfl]
      · rw [q3, fx.1, fI4.1, q4 56 (by decide), G7 56 (by decide) (by decide)]; exact s56.symm
      · rw [q3, fx.1, fI4.2.1, q4 57 (by decide), G7 57 (by decide) (by decide)]; exact s57.symm
      · obtain ⟨k, k1, k2, k3, k4⟩ := m10 j hj
        rw [en] at k2
        rw [e31] at k3
        exact ⟨k, k1, by omega, ⟨k2, k3⟩, k4⟩
      · rw [q3, fx.1, fI4.2.2.1 f (by omega) (by omega)]
      · rw [q2 f (by omega) (by omega), fx.2, fI4.2.2.2]
      · by_cases q58 : f = 58
        · subst q58
          rw [q5 y hy, G7 58 (by decide) (by decide)]; exact o6 58 (by decide) y hy
        · rw [q4 f (by omega)]
          by_cases q54 : f = 54
          · subst q54; rw [G54, if_neg hy]
          · rw [G7 f (by omega) q54]; exact o6 f (by omega) y hy
      · rw [(q6 y hy).1, (q6 y hy).2, G7 59 (by decide) (by decide), G7 60 (by decide) (by decide), (F6 59 (by decide)).2, (F6 60 (by decide)).2]
        exact ⟨rfl, rfl⟩
  · refine ((OUT.B (b := b) (pr_ansNum (d := d) (e := e) rb hN hx hpx h1 hR)).nn (fun v v' w' τ' _ cc n => ?_)).ts.le
    obtain ⟨a1, a2, a3, a4, a5, a6, a7⟩ := n
    exact ⟨Or.inl ⟨a1, by rw [a6]; exact i62, by rw [a5 61 (by decide)]; exact i61, a2, by rw [← a2]; exact a3, by rw [← a2]; exact a4⟩, fun f hf => ⟨a5 f (by omega), a6 f⟩, fun f hf y hy => a7 f (by omega) y hy, fun y hy => ⟨(cc.2.2.2.1 59 (by decide)).2 _, (cc.2.2.2.1 60 (by decide)).2 _⟩⟩
end ZAnswer6
